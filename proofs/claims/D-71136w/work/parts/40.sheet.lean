set_option maxRecDepth 100000
/-! BattleBench.Sheet.lane()I -/
def wp_X8_lane_B (rn : Nat) (rw : Nat → Int32) (Q : Int32 → Prop) : Prop :=
  Q (0 : Int32)
set_option maxHeartbeats 4000000 in
theorem mt_X8_lane_B (l : Launch) (G : GT) (h h_r : Nat) (sz : Nat) (rn : Nat) (rw : Nat → Int32) (Q : Int32 → Prop) (hw : wp_X8_lane_B rn rw Q) : Met l yX8_lane (ws_ yX8_lane cX8_lane 1 (some .int)) ({ frames := 0, cells := 0, slots := 0, locals := 0 } : Room) (va_Pc [.ref h] (fun U => U.heap.size = sz ∧ va_P G.1 gCl [oc h 8 [.ref h_r], ay G h_r rn rw] U.heap ∧ gK G U ∧ va_D (fun _ => True) [oc h 8 [.ref h_r], ay G h_r rn rw])) ((fun A => (va_Qi (fun (r : Int32) (u : Unit) => Q r ) (fun u t => va_P G.1 gCl [oc h 8 [.ref h_r], ay G h_r rn rw] t.heap ∧ va_D A [oc h 8 [.ref h_r], ay G h_r rn rw]) A)) (va_A [oc h 8 [.ref h_r], ay G h_r rn rw] sz)) 0 0 (va_A [oc h 8 [.ref h_r], ay G h_r rn rw] sz) := by
  refine Met.ofW (cc := cX8_lane) (maxL := 1) (ret := (some .int)) (by decide) rfl ?_
  intro p e s m args below meth c s₁ B hml hv
  obtain ⟨rfl, hsz, hP, hK, hD0⟩ := hv
  have hx := B.exec
  have hb := B.bytes
  have hr := B.returns
  have hts := atoms_spec (ws := (ws_ yX8_lane cX8_lane 1 (some .int))) B.pre
  have hts : ∀ w ∈ lw_all, w.before _ s = true := fun w h => hts w (List.mem_cons_of_mem _ h)
  have hown : s.vm.findClass RX8 = some m.cls := findClass_of_methodNamed B.named
  have hlocks := B.notSynchronized
  subst hsz
  have hD := hD0.self (sz := s.heap.size)
  generalize hAe : va_A [oc h 8 [.ref h_r], ay G h_r rn rw] s.heap.size = A at hD ⊢
  have hA : ∀ q : Nat, s.heap.size ≤ q → A q := fun q h => by rw [← hAe]; exact Or.inr h
  have hS : va_S A s.heap s.heap [] := va_S.rf
  have C : Cx p s m meth c cX8_lane 1 (some .int) RX8 ([.ref h] : List Value).toArray G A := ⟨hx, hb, hr, hlocks, hml, hown, hts, hK, hA⟩
  have hl := lv_entry ([.ref h]) (n := 1) (Nat.le_of_ble_eq_true rfl)
  rw [lg_entry_eq]
  generalize (lg_sl ([.ref h]) ++ List.replicate (1 - (lg_sl ([.ref h])).length) Slot.unset).toArray = ls at hl ⊢
  have hl : lv_has ls 1 [(0, .ref h)] := hl
  unfold wp_X8_lane_B at hw
  refine lv_aload_n hx hb dX8_lane_0 rfl (lv_at hl 0 rfl) ?_
  refine va_get (D := G.1) (ci := 8) (v := .ref h_r) (C := RX8) (T := TX8) (N := 1) hx hb hts in_X8 hown hK.1 hP 0 rfl rfl 0 (by decide) (hts _ q250) (fun _ h9 => h9) rfl dX8_lane_1 ?_
  refine z_instA hx hb hown (hts _ q661) hP 1 rfl ((hK.1.2 3 _ rfl).2.nm rfl rfl) dX8_lane_4 ?_
  refine lv_if_eq (tgt := 14) hx hb dX8_lane_7 (by decide) (fun c_1 => absurd c_1 (by decide)) (fun _ => ?_)
  refine lv_iconst (v := (0 : Int32)) hx hb dX8_lane_10 (by decide) ?_
  refine lv_goto (tgt := 43) hx hb dX8_lane_11 (by decide) ?_
  have hP9 := hP
  have hD9 := hD
  exact W.iret (v := (0 : Int32)) hx hb hr (fun t ht hW => ⟨⟨(0 : Int32), (), rfl, hw, by rw [ht]; exact hP9, hD9⟩, hS.F ht⟩) hS.2.2 dX8_lane_43
/-! BattleBench.Sheet.size()I -/
def wp_X8_size_B (rn : Nat) (rw : Nat → Int32) (Q : Int32 → Prop) : Prop :=
  Q (nI rn)
set_option maxHeartbeats 4000000 in
theorem mt_X8_size_B (l : Launch) (G : GT) (h h_r : Nat) (sz : Nat) (rn : Nat) (rw : Nat → Int32) (Q : Int32 → Prop) (hw : wp_X8_size_B rn rw Q) : Met l yX8_size (ws_ yX8_size cX8_size 3 (some .int)) ({ frames := 0, cells := 0, slots := 0, locals := 0 } : Room) (va_Pc [.ref h] (fun U => U.heap.size = sz ∧ va_P G.1 gCl [oc h 8 [.ref h_r], ay G h_r rn rw] U.heap ∧ gK G U ∧ va_D (fun _ => True) [oc h 8 [.ref h_r], ay G h_r rn rw])) ((fun A => (va_Qi (fun (r : Int32) (u : Unit) => Q r ) (fun u t => va_P G.1 gCl [oc h 8 [.ref h_r], ay G h_r rn rw] t.heap ∧ va_D A [oc h 8 [.ref h_r], ay G h_r rn rw]) A)) (va_A [oc h 8 [.ref h_r], ay G h_r rn rw] sz)) 0 0 (va_A [oc h 8 [.ref h_r], ay G h_r rn rw] sz) := by
  refine Met.ofW (cc := cX8_size) (maxL := 3) (ret := (some .int)) (by decide) rfl ?_
  intro p e s m args below meth c s₁ B hml hv
  obtain ⟨rfl, hsz, hP, hK, hD0⟩ := hv
  have hx := B.exec
  have hb := B.bytes
  have hr := B.returns
  have hts := atoms_spec (ws := (ws_ yX8_size cX8_size 3 (some .int))) B.pre
  have hts : ∀ w ∈ lw_all, w.before _ s = true := fun w h => hts w (List.mem_cons_of_mem _ h)
  have hown : s.vm.findClass RX8 = some m.cls := findClass_of_methodNamed B.named
  have hlocks := B.notSynchronized
  subst hsz
  have hD := hD0.self (sz := s.heap.size)
  generalize hAe : va_A [oc h 8 [.ref h_r], ay G h_r rn rw] s.heap.size = A at hD ⊢
  have hA : ∀ q : Nat, s.heap.size ≤ q → A q := fun q h => by rw [← hAe]; exact Or.inr h
  have hS : va_S A s.heap s.heap [] := va_S.rf
  have C : Cx p s m meth c cX8_size 3 (some .int) RX8 ([.ref h] : List Value).toArray G A := ⟨hx, hb, hr, hlocks, hml, hown, hts, hK, hA⟩
  have hl := lv_entry ([.ref h]) (n := 3) (Nat.le_of_ble_eq_true rfl)
  rw [lg_entry_eq]
  generalize (lg_sl ([.ref h]) ++ List.replicate (3 - (lg_sl ([.ref h])).length) Slot.unset).toArray = ls at hl ⊢
  have hl : lv_has ls 3 [(0, .ref h)] := hl
  unfold wp_X8_size_B at hw
  refine lv_aload_n hx hb dX8_size_0 rfl (lv_at hl 0 rfl) ?_
  refine va_get (D := G.1) (ci := 8) (v := .ref h_r) (C := RX8) (T := TX8) (N := 1) hx hb hts in_X8 hown hK.1 hP 0 rfl rfl 0 (by decide) (hts _ q250) (fun _ h9 => h9) rfl dX8_size_1 ?_
  refine lv_astore_n (lv' := [(2, .ref h_r), (0, .ref h)]) hx hb dX8_size_4 rfl hl (by decide) rfl (fun ls hl => ?_)
  refine lv_aload_n hx hb dX8_size_5 rfl (lv_at hl 0 rfl) ?_
  refine z_instA hx hb hown (hts _ q661) hP 1 rfl ((hK.1.2 3 _ rfl).2.nm rfl rfl) dX8_size_6 ?_
  refine lv_if_eq (tgt := 20) hx hb dX8_size_9 (by decide) (fun c_1 => absurd c_1 (by decide)) (fun _ => ?_)
  refine lv_aload_n hx hb dX8_size_12 rfl (lv_at hl 0 rfl) ?_
  refine va_castA hx hb hown (hts _ q661) hP 1 rfl ((hK.1.2 3 _ rfl).2.nm rfl rfl) dX8_size_13 ?_
  refine lv_astore_n (lv' := [(1, .ref h_r), (2, .ref h_r), (0, .ref h)]) hx hb dX8_size_16 rfl hl (by decide) rfl (fun ls hl => ?_)
  refine lv_aload_n hx hb dX8_size_17 rfl (lv_at hl 0 rfl) ?_
  refine va_alen (v := (nI rn)) hx hb hK.1 hP 1 3 rfl rfl rfl dX8_size_18 ?_
  have hP9 := hP
  have hD9 := hD
  exact W.iret (v := (nI rn)) hx hb hr (fun t ht hW => ⟨⟨(nI rn), (), rfl, hw, by rw [ht]; exact hP9, hD9⟩, hS.F ht⟩) hS.2.2 dX8_size_19
/-! BattleBench.Sheet.get(I)J -/
def wp_X8_get_B (rn : Nat) (rw : Nat → Int32) (p1 : Int32) (Q : Int64 → Prop) : Prop :=
  (vp_in p1 rn ∧ Q (Int32.toInt64 (rw p1.toNatClampNeg)))
set_option maxHeartbeats 4000000 in
theorem mt_X8_get_B (l : Launch) (G : GT) (h h_r : Nat) (sz : Nat) (rn : Nat) (rw : Nat → Int32) (p1 : Int32) (Q : Int64 → Prop) (hw : wp_X8_get_B rn rw p1 Q) : Met l yX8_get (ws_ yX8_get cX8_get 4 (some .long)) ({ frames := 0, cells := 0, slots := 0, locals := 0 } : Room) (va_Pc [.ref h, .int p1] (fun U => U.heap.size = sz ∧ va_P G.1 gCl [oc h 8 [.ref h_r], ay G h_r rn rw] U.heap ∧ gK G U ∧ va_D (fun _ => True) [oc h 8 [.ref h_r], ay G h_r rn rw])) ((fun A => (va_Ql (fun (r : Int64) (u : Unit) => Q r ) (fun u t => va_P G.1 gCl [oc h 8 [.ref h_r], ay G h_r rn rw] t.heap ∧ va_D A [oc h 8 [.ref h_r], ay G h_r rn rw]) A)) (va_A [oc h 8 [.ref h_r], ay G h_r rn rw] sz)) 0 0 (va_A [oc h 8 [.ref h_r], ay G h_r rn rw] sz) := by
  refine Met.ofW (cc := cX8_get) (maxL := 4) (ret := (some .long)) (by decide) rfl ?_
  intro p e s m args below meth c s₁ B hml hv
  obtain ⟨rfl, hsz, hP, hK, hD0⟩ := hv
  have hx := B.exec
  have hb := B.bytes
  have hr := B.returns
  have hts := atoms_spec (ws := (ws_ yX8_get cX8_get 4 (some .long))) B.pre
  have hts : ∀ w ∈ lw_all, w.before _ s = true := fun w h => hts w (List.mem_cons_of_mem _ h)
  have hown : s.vm.findClass RX8 = some m.cls := findClass_of_methodNamed B.named
  have hlocks := B.notSynchronized
  subst hsz
  have hD := hD0.self (sz := s.heap.size)
  generalize hAe : va_A [oc h 8 [.ref h_r], ay G h_r rn rw] s.heap.size = A at hD ⊢
  have hA : ∀ q : Nat, s.heap.size ≤ q → A q := fun q h => by rw [← hAe]; exact Or.inr h
  have hS : va_S A s.heap s.heap [] := va_S.rf
  have C : Cx p s m meth c cX8_get 4 (some .long) RX8 ([.ref h, .int p1] : List Value).toArray G A := ⟨hx, hb, hr, hlocks, hml, hown, hts, hK, hA⟩
  have hl := lv_entry ([.ref h, .int p1]) (n := 4) (Nat.le_of_ble_eq_true rfl)
  rw [lg_entry_eq]
  generalize (lg_sl ([.ref h, .int p1]) ++ List.replicate (4 - (lg_sl ([.ref h, .int p1])).length) Slot.unset).toArray = ls at hl ⊢
  have hl : lv_has ls 4 [(0, .ref h), (1, .int p1)] := hl
  unfold wp_X8_get_B at hw
  refine lv_aload_n hx hb dX8_get_0 rfl (lv_at hl 0 rfl) ?_
  refine va_get (D := G.1) (ci := 8) (v := .ref h_r) (C := RX8) (T := TX8) (N := 1) hx hb hts in_X8 hown hK.1 hP 0 rfl rfl 0 (by decide) (hts _ q250) (fun _ h9 => h9) rfl dX8_get_1 ?_
  refine lv_astore_n (lv' := [(3, .ref h_r), (0, .ref h), (1, .int p1)]) hx hb dX8_get_4 rfl hl (by decide) rfl (fun ls hl => ?_)
  refine lv_aload_n hx hb dX8_get_5 rfl (lv_at hl 0 rfl) ?_
  refine z_instA hx hb hown (hts _ q661) hP 1 rfl ((hK.1.2 3 _ rfl).2.nm rfl rfl) dX8_get_6 ?_
  refine lv_if_eq (tgt := 22) hx hb dX8_get_9 (by decide) (fun c_1 => absurd c_1 (by decide)) (fun _ => ?_)
  refine lv_aload_n hx hb dX8_get_12 rfl (lv_at hl 0 rfl) ?_
  refine va_castA hx hb hown (hts _ q661) hP 1 rfl ((hK.1.2 3 _ rfl).2.nm rfl rfl) dX8_get_13 ?_
  refine lv_astore_n (lv' := [(2, .ref h_r), (3, .ref h_r), (0, .ref h), (1, .int p1)]) hx hb dX8_get_16 rfl hl (by decide) rfl (fun ls hl => ?_)
  refine lv_aload_n hx hb dX8_get_17 rfl (lv_at hl 0 rfl) ?_
  refine lv_iload_n hx hb dX8_get_18 rfl (lv_at hl 3 rfl) ?_
  obtain ⟨i_2, hw⟩ := hw
  refine z_bald hx hb hK.1 hP 1 3 rfl rfl i_2 dX8_get_19 (k := p1.toNatClampNeg) rfl ?_
  refine lv_i2l hx hb dX8_get_20 rfl ?_
  have hP9 := hP
  have hD9 := hD
  exact W.lret (v := (Int32.toInt64 (rw p1.toNatClampNeg))) hx hb hr (fun t ht hW => ⟨⟨(Int32.toInt64 (rw p1.toNatClampNeg)), (), rfl, hw, by rw [ht]; exact hP9, hD9⟩, hS.F ht⟩) hS.2.2 dX8_get_21
/-! BattleBench.Sheet.lane()I -/
def wp_X8_lane_S (rn : Nat) (rw : Nat → Int32) (Q : Int32 → Prop) : Prop :=
  Q (1 : Int32)
set_option maxHeartbeats 4000000 in
theorem mt_X8_lane_S (l : Launch) (G : GT) (h h_r : Nat) (sz : Nat) (rn : Nat) (rw : Nat → Int32) (Q : Int32 → Prop) (hw : wp_X8_lane_S rn rw Q) : Met l yX8_lane (ws_ yX8_lane cX8_lane 1 (some .int)) ({ frames := 0, cells := 0, slots := 0, locals := 0 } : Room) (va_Pc [.ref h] (fun U => U.heap.size = sz ∧ va_P G.1 gCl [oc h 8 [.ref h_r], ah G h_r rn rw] U.heap ∧ gK G U ∧ va_D (fun _ => True) [oc h 8 [.ref h_r], ah G h_r rn rw])) ((fun A => (va_Qi (fun (r : Int32) (u : Unit) => Q r ) (fun u t => va_P G.1 gCl [oc h 8 [.ref h_r], ah G h_r rn rw] t.heap ∧ va_D A [oc h 8 [.ref h_r], ah G h_r rn rw]) A)) (va_A [oc h 8 [.ref h_r], ah G h_r rn rw] sz)) 0 0 (va_A [oc h 8 [.ref h_r], ah G h_r rn rw] sz) := by
  refine Met.ofW (cc := cX8_lane) (maxL := 1) (ret := (some .int)) (by decide) rfl ?_
  intro p e s m args below meth c s₁ B hml hv
  obtain ⟨rfl, hsz, hP, hK, hD0⟩ := hv
  have hx := B.exec
  have hb := B.bytes
  have hr := B.returns
  have hts := atoms_spec (ws := (ws_ yX8_lane cX8_lane 1 (some .int))) B.pre
  have hts : ∀ w ∈ lw_all, w.before _ s = true := fun w h => hts w (List.mem_cons_of_mem _ h)
  have hown : s.vm.findClass RX8 = some m.cls := findClass_of_methodNamed B.named
  have hlocks := B.notSynchronized
  subst hsz
  have hD := hD0.self (sz := s.heap.size)
  generalize hAe : va_A [oc h 8 [.ref h_r], ah G h_r rn rw] s.heap.size = A at hD ⊢
  have hA : ∀ q : Nat, s.heap.size ≤ q → A q := fun q h => by rw [← hAe]; exact Or.inr h
  have hS : va_S A s.heap s.heap [] := va_S.rf
  have C : Cx p s m meth c cX8_lane 1 (some .int) RX8 ([.ref h] : List Value).toArray G A := ⟨hx, hb, hr, hlocks, hml, hown, hts, hK, hA⟩
  have hl := lv_entry ([.ref h]) (n := 1) (Nat.le_of_ble_eq_true rfl)
  rw [lg_entry_eq]
  generalize (lg_sl ([.ref h]) ++ List.replicate (1 - (lg_sl ([.ref h])).length) Slot.unset).toArray = ls at hl ⊢
  have hl : lv_has ls 1 [(0, .ref h)] := hl
  unfold wp_X8_lane_S at hw
  refine lv_aload_n hx hb dX8_lane_0 rfl (lv_at hl 0 rfl) ?_
  refine va_get (D := G.1) (ci := 8) (v := .ref h_r) (C := RX8) (T := TX8) (N := 1) hx hb hts in_X8 hown hK.1 hP 0 rfl rfl 0 (by decide) (hts _ q250) (fun _ h9 => h9) rfl dX8_lane_1 ?_
  refine z_instB (C := "[S") hx hb hown (hts _ q661) hP 1 rfl ((hK.1.2 4 _ rfl).2.nm rfl rfl) (hK.2.2 ("[S", "[B") (by decide +kernel)) dX8_lane_4 ?_
  refine lv_if_eq (tgt := 14) hx hb dX8_lane_7 (by decide) (fun _ => ?_) (fun c_1 => absurd (by decide) c_1)
  refine lv_aload_n hx hb dX8_lane_14 rfl (lv_at hl 0 rfl) ?_
  refine va_get (D := G.1) (ci := 8) (v := .ref h_r) (C := RX8) (T := TX8) (N := 1) hx hb hts in_X8 hown hK.1 hP 0 rfl rfl 0 (by decide) (hts _ q250) (fun _ h9 => h9) rfl dX8_lane_15 ?_
  refine z_instA hx hb hown (hts _ q662) hP 1 rfl ((hK.1.2 4 _ rfl).2.nm rfl rfl) dX8_lane_18 ?_
  refine lv_if_eq (tgt := 28) hx hb dX8_lane_21 (by decide) (fun c_2 => absurd c_2 (by decide)) (fun _ => ?_)
  refine lv_iconst (v := (1 : Int32)) hx hb dX8_lane_24 (by decide) ?_
  refine lv_goto (tgt := 43) hx hb dX8_lane_25 (by decide) ?_
  have hP9 := hP
  have hD9 := hD
  exact W.iret (v := (1 : Int32)) hx hb hr (fun t ht hW => ⟨⟨(1 : Int32), (), rfl, hw, by rw [ht]; exact hP9, hD9⟩, hS.F ht⟩) hS.2.2 dX8_lane_43
/-! BattleBench.Sheet.size()I -/
def wp_X8_size_S (rn : Nat) (rw : Nat → Int32) (Q : Int32 → Prop) : Prop :=
  Q (nI rn)
set_option maxHeartbeats 4000000 in
theorem mt_X8_size_S (l : Launch) (G : GT) (h h_r : Nat) (sz : Nat) (rn : Nat) (rw : Nat → Int32) (Q : Int32 → Prop) (hw : wp_X8_size_S rn rw Q) : Met l yX8_size (ws_ yX8_size cX8_size 3 (some .int)) ({ frames := 0, cells := 0, slots := 0, locals := 0 } : Room) (va_Pc [.ref h] (fun U => U.heap.size = sz ∧ va_P G.1 gCl [oc h 8 [.ref h_r], ah G h_r rn rw] U.heap ∧ gK G U ∧ va_D (fun _ => True) [oc h 8 [.ref h_r], ah G h_r rn rw])) ((fun A => (va_Qi (fun (r : Int32) (u : Unit) => Q r ) (fun u t => va_P G.1 gCl [oc h 8 [.ref h_r], ah G h_r rn rw] t.heap ∧ va_D A [oc h 8 [.ref h_r], ah G h_r rn rw]) A)) (va_A [oc h 8 [.ref h_r], ah G h_r rn rw] sz)) 0 0 (va_A [oc h 8 [.ref h_r], ah G h_r rn rw] sz) := by
  refine Met.ofW (cc := cX8_size) (maxL := 3) (ret := (some .int)) (by decide) rfl ?_
  intro p e s m args below meth c s₁ B hml hv
  obtain ⟨rfl, hsz, hP, hK, hD0⟩ := hv
  have hx := B.exec
  have hb := B.bytes
  have hr := B.returns
  have hts := atoms_spec (ws := (ws_ yX8_size cX8_size 3 (some .int))) B.pre
  have hts : ∀ w ∈ lw_all, w.before _ s = true := fun w h => hts w (List.mem_cons_of_mem _ h)
  have hown : s.vm.findClass RX8 = some m.cls := findClass_of_methodNamed B.named
  have hlocks := B.notSynchronized
  subst hsz
  have hD := hD0.self (sz := s.heap.size)
  generalize hAe : va_A [oc h 8 [.ref h_r], ah G h_r rn rw] s.heap.size = A at hD ⊢
  have hA : ∀ q : Nat, s.heap.size ≤ q → A q := fun q h => by rw [← hAe]; exact Or.inr h
  have hS : va_S A s.heap s.heap [] := va_S.rf
  have C : Cx p s m meth c cX8_size 3 (some .int) RX8 ([.ref h] : List Value).toArray G A := ⟨hx, hb, hr, hlocks, hml, hown, hts, hK, hA⟩
  have hl := lv_entry ([.ref h]) (n := 3) (Nat.le_of_ble_eq_true rfl)
  rw [lg_entry_eq]
  generalize (lg_sl ([.ref h]) ++ List.replicate (3 - (lg_sl ([.ref h])).length) Slot.unset).toArray = ls at hl ⊢
  have hl : lv_has ls 3 [(0, .ref h)] := hl
  unfold wp_X8_size_S at hw
  refine lv_aload_n hx hb dX8_size_0 rfl (lv_at hl 0 rfl) ?_
  refine va_get (D := G.1) (ci := 8) (v := .ref h_r) (C := RX8) (T := TX8) (N := 1) hx hb hts in_X8 hown hK.1 hP 0 rfl rfl 0 (by decide) (hts _ q250) (fun _ h9 => h9) rfl dX8_size_1 ?_
  refine lv_astore_n (lv' := [(2, .ref h_r), (0, .ref h)]) hx hb dX8_size_4 rfl hl (by decide) rfl (fun ls hl => ?_)
  refine lv_aload_n hx hb dX8_size_5 rfl (lv_at hl 0 rfl) ?_
  refine z_instB (C := "[S") hx hb hown (hts _ q661) hP 1 rfl ((hK.1.2 4 _ rfl).2.nm rfl rfl) (hK.2.2 ("[S", "[B") (by decide +kernel)) dX8_size_6 ?_
  refine lv_if_eq (tgt := 20) hx hb dX8_size_9 (by decide) (fun _ => ?_) (fun c_1 => absurd (by decide) c_1)
  refine lv_aload_n hx hb dX8_size_20 rfl (lv_at hl 1 rfl) ?_
  refine va_get (D := G.1) (ci := 8) (v := .ref h_r) (C := RX8) (T := TX8) (N := 1) hx hb hts in_X8 hown hK.1 hP 0 rfl rfl 0 (by decide) (hts _ q250) (fun _ h9 => h9) rfl dX8_size_21 ?_
  refine lv_astore_n (lv' := [(2, .ref h_r), (0, .ref h)]) hx hb dX8_size_24 rfl hl (by decide) rfl (fun ls hl => ?_)
  refine lv_aload_n hx hb dX8_size_25 rfl (lv_at hl 0 rfl) ?_
  refine z_instA hx hb hown (hts _ q662) hP 1 rfl ((hK.1.2 4 _ rfl).2.nm rfl rfl) dX8_size_26 ?_
  refine lv_if_eq (tgt := 40) hx hb dX8_size_29 (by decide) (fun c_2 => absurd c_2 (by decide)) (fun _ => ?_)
  refine lv_aload_n hx hb dX8_size_32 rfl (lv_at hl 0 rfl) ?_
  refine va_castA hx hb hown (hts _ q662) hP 1 rfl ((hK.1.2 4 _ rfl).2.nm rfl rfl) dX8_size_33 ?_
  refine lv_astore_n (lv' := [(1, .ref h_r), (2, .ref h_r), (0, .ref h)]) hx hb dX8_size_36 rfl hl (by decide) rfl (fun ls hl => ?_)
  refine lv_aload_n hx hb dX8_size_37 rfl (lv_at hl 0 rfl) ?_
  refine va_alen (v := (nI rn)) hx hb hK.1 hP 1 4 rfl rfl rfl dX8_size_38 ?_
  have hP9 := hP
  have hD9 := hD
  exact W.iret (v := (nI rn)) hx hb hr (fun t ht hW => ⟨⟨(nI rn), (), rfl, hw, by rw [ht]; exact hP9, hD9⟩, hS.F ht⟩) hS.2.2 dX8_size_39
/-! BattleBench.Sheet.get(I)J -/
def wp_X8_get_S (rn : Nat) (rw : Nat → Int32) (p1 : Int32) (Q : Int64 → Prop) : Prop :=
  (vp_in p1 rn ∧ Q (Int32.toInt64 (rw p1.toNatClampNeg)))
set_option maxHeartbeats 4000000 in
theorem mt_X8_get_S (l : Launch) (G : GT) (h h_r : Nat) (sz : Nat) (rn : Nat) (rw : Nat → Int32) (p1 : Int32) (Q : Int64 → Prop) (hw : wp_X8_get_S rn rw p1 Q) : Met l yX8_get (ws_ yX8_get cX8_get 4 (some .long)) ({ frames := 0, cells := 0, slots := 0, locals := 0 } : Room) (va_Pc [.ref h, .int p1] (fun U => U.heap.size = sz ∧ va_P G.1 gCl [oc h 8 [.ref h_r], ah G h_r rn rw] U.heap ∧ gK G U ∧ va_D (fun _ => True) [oc h 8 [.ref h_r], ah G h_r rn rw])) ((fun A => (va_Ql (fun (r : Int64) (u : Unit) => Q r ) (fun u t => va_P G.1 gCl [oc h 8 [.ref h_r], ah G h_r rn rw] t.heap ∧ va_D A [oc h 8 [.ref h_r], ah G h_r rn rw]) A)) (va_A [oc h 8 [.ref h_r], ah G h_r rn rw] sz)) 0 0 (va_A [oc h 8 [.ref h_r], ah G h_r rn rw] sz) := by
  refine Met.ofW (cc := cX8_get) (maxL := 4) (ret := (some .long)) (by decide) rfl ?_
  intro p e s m args below meth c s₁ B hml hv
  obtain ⟨rfl, hsz, hP, hK, hD0⟩ := hv
  have hx := B.exec
  have hb := B.bytes
  have hr := B.returns
  have hts := atoms_spec (ws := (ws_ yX8_get cX8_get 4 (some .long))) B.pre
  have hts : ∀ w ∈ lw_all, w.before _ s = true := fun w h => hts w (List.mem_cons_of_mem _ h)
  have hown : s.vm.findClass RX8 = some m.cls := findClass_of_methodNamed B.named
  have hlocks := B.notSynchronized
  subst hsz
  have hD := hD0.self (sz := s.heap.size)
  generalize hAe : va_A [oc h 8 [.ref h_r], ah G h_r rn rw] s.heap.size = A at hD ⊢
  have hA : ∀ q : Nat, s.heap.size ≤ q → A q := fun q h => by rw [← hAe]; exact Or.inr h
  have hS : va_S A s.heap s.heap [] := va_S.rf
  have C : Cx p s m meth c cX8_get 4 (some .long) RX8 ([.ref h, .int p1] : List Value).toArray G A := ⟨hx, hb, hr, hlocks, hml, hown, hts, hK, hA⟩
  have hl := lv_entry ([.ref h, .int p1]) (n := 4) (Nat.le_of_ble_eq_true rfl)
  rw [lg_entry_eq]
  generalize (lg_sl ([.ref h, .int p1]) ++ List.replicate (4 - (lg_sl ([.ref h, .int p1])).length) Slot.unset).toArray = ls at hl ⊢
  have hl : lv_has ls 4 [(0, .ref h), (1, .int p1)] := hl
  unfold wp_X8_get_S at hw
  refine lv_aload_n hx hb dX8_get_0 rfl (lv_at hl 0 rfl) ?_
  refine va_get (D := G.1) (ci := 8) (v := .ref h_r) (C := RX8) (T := TX8) (N := 1) hx hb hts in_X8 hown hK.1 hP 0 rfl rfl 0 (by decide) (hts _ q250) (fun _ h9 => h9) rfl dX8_get_1 ?_
  refine lv_astore_n (lv' := [(3, .ref h_r), (0, .ref h), (1, .int p1)]) hx hb dX8_get_4 rfl hl (by decide) rfl (fun ls hl => ?_)
  refine lv_aload_n hx hb dX8_get_5 rfl (lv_at hl 0 rfl) ?_
  refine z_instB (C := "[S") hx hb hown (hts _ q661) hP 1 rfl ((hK.1.2 4 _ rfl).2.nm rfl rfl) (hK.2.2 ("[S", "[B") (by decide +kernel)) dX8_get_6 ?_
  refine lv_if_eq (tgt := 22) hx hb dX8_get_9 (by decide) (fun _ => ?_) (fun c_1 => absurd (by decide) c_1)
  refine lv_aload_n hx hb dX8_get_22 rfl (lv_at hl 1 rfl) ?_
  refine va_get (D := G.1) (ci := 8) (v := .ref h_r) (C := RX8) (T := TX8) (N := 1) hx hb hts in_X8 hown hK.1 hP 0 rfl rfl 0 (by decide) (hts _ q250) (fun _ h9 => h9) rfl dX8_get_23 ?_
  refine lv_astore_n (lv' := [(3, .ref h_r), (0, .ref h), (1, .int p1)]) hx hb dX8_get_26 rfl hl (by decide) rfl (fun ls hl => ?_)
  refine lv_aload_n hx hb dX8_get_27 rfl (lv_at hl 0 rfl) ?_
  refine z_instA hx hb hown (hts _ q662) hP 1 rfl ((hK.1.2 4 _ rfl).2.nm rfl rfl) dX8_get_28 ?_
  refine lv_if_eq (tgt := 44) hx hb dX8_get_31 (by decide) (fun c_2 => absurd c_2 (by decide)) (fun _ => ?_)
  refine lv_aload_n hx hb dX8_get_34 rfl (lv_at hl 0 rfl) ?_
  refine va_castA hx hb hown (hts _ q662) hP 1 rfl ((hK.1.2 4 _ rfl).2.nm rfl rfl) dX8_get_35 ?_
  refine lv_astore_n (lv' := [(2, .ref h_r), (3, .ref h_r), (0, .ref h), (1, .int p1)]) hx hb dX8_get_38 rfl hl (by decide) rfl (fun ls hl => ?_)
  refine lv_aload_n hx hb dX8_get_39 rfl (lv_at hl 0 rfl) ?_
  refine lv_iload_n hx hb dX8_get_40 rfl (lv_at hl 3 rfl) ?_
  obtain ⟨i_3, hw⟩ := hw
  refine z_sald hx hb hK.1 hP 1 4 rfl rfl i_3 dX8_get_41 (k := p1.toNatClampNeg) rfl ?_
  refine lv_i2l hx hb dX8_get_42 rfl ?_
  have hP9 := hP
  have hD9 := hD
  exact W.lret (v := (Int32.toInt64 (rw p1.toNatClampNeg))) hx hb hr (fun t ht hW => ⟨⟨(Int32.toInt64 (rw p1.toNatClampNeg)), (), rfl, hw, by rw [ht]; exact hP9, hD9⟩, hS.F ht⟩) hS.2.2 dX8_get_43
/-! BattleBench.Sheet.lane()I -/
def wp_X8_lane_I (rn : Nat) (rw : Nat → Int32) (Q : Int32 → Prop) : Prop :=
  Q (2 : Int32)
set_option maxHeartbeats 4000000 in
theorem mt_X8_lane_I (l : Launch) (G : GT) (h h_r : Nat) (sz : Nat) (rn : Nat) (rw : Nat → Int32) (Q : Int32 → Prop) (hw : wp_X8_lane_I rn rw Q) : Met l yX8_lane (ws_ yX8_lane cX8_lane 1 (some .int)) ({ frames := 0, cells := 0, slots := 0, locals := 0 } : Room) (va_Pc [.ref h] (fun U => U.heap.size = sz ∧ va_P G.1 gCl [oc h 8 [.ref h_r], ai G h_r rn rw] U.heap ∧ gK G U ∧ va_D (fun _ => True) [oc h 8 [.ref h_r], ai G h_r rn rw])) ((fun A => (va_Qi (fun (r : Int32) (u : Unit) => Q r ) (fun u t => va_P G.1 gCl [oc h 8 [.ref h_r], ai G h_r rn rw] t.heap ∧ va_D A [oc h 8 [.ref h_r], ai G h_r rn rw]) A)) (va_A [oc h 8 [.ref h_r], ai G h_r rn rw] sz)) 0 0 (va_A [oc h 8 [.ref h_r], ai G h_r rn rw] sz) := by
  refine Met.ofW (cc := cX8_lane) (maxL := 1) (ret := (some .int)) (by decide) rfl ?_
  intro p e s m args below meth c s₁ B hml hv
  obtain ⟨rfl, hsz, hP, hK, hD0⟩ := hv
  have hx := B.exec
  have hb := B.bytes
  have hr := B.returns
  have hts := atoms_spec (ws := (ws_ yX8_lane cX8_lane 1 (some .int))) B.pre
  have hts : ∀ w ∈ lw_all, w.before _ s = true := fun w h => hts w (List.mem_cons_of_mem _ h)
  have hown : s.vm.findClass RX8 = some m.cls := findClass_of_methodNamed B.named
  have hlocks := B.notSynchronized
  subst hsz
  have hD := hD0.self (sz := s.heap.size)
  generalize hAe : va_A [oc h 8 [.ref h_r], ai G h_r rn rw] s.heap.size = A at hD ⊢
  have hA : ∀ q : Nat, s.heap.size ≤ q → A q := fun q h => by rw [← hAe]; exact Or.inr h
  have hS : va_S A s.heap s.heap [] := va_S.rf
  have C : Cx p s m meth c cX8_lane 1 (some .int) RX8 ([.ref h] : List Value).toArray G A := ⟨hx, hb, hr, hlocks, hml, hown, hts, hK, hA⟩
  have hl := lv_entry ([.ref h]) (n := 1) (Nat.le_of_ble_eq_true rfl)
  rw [lg_entry_eq]
  generalize (lg_sl ([.ref h]) ++ List.replicate (1 - (lg_sl ([.ref h])).length) Slot.unset).toArray = ls at hl ⊢
  have hl : lv_has ls 1 [(0, .ref h)] := hl
  unfold wp_X8_lane_I at hw
  refine lv_aload_n hx hb dX8_lane_0 rfl (lv_at hl 0 rfl) ?_
  refine va_get (D := G.1) (ci := 8) (v := .ref h_r) (C := RX8) (T := TX8) (N := 1) hx hb hts in_X8 hown hK.1 hP 0 rfl rfl 0 (by decide) (hts _ q250) (fun _ h9 => h9) rfl dX8_lane_1 ?_
  refine z_instB (C := "[I") hx hb hown (hts _ q661) hP 1 rfl ((hK.1.2 0 _ rfl).2.nm rfl rfl) (hK.2.2 ("[I", "[B") (by decide +kernel)) dX8_lane_4 ?_
  refine lv_if_eq (tgt := 14) hx hb dX8_lane_7 (by decide) (fun _ => ?_) (fun c_1 => absurd (by decide) c_1)
  refine lv_aload_n hx hb dX8_lane_14 rfl (lv_at hl 0 rfl) ?_
  refine va_get (D := G.1) (ci := 8) (v := .ref h_r) (C := RX8) (T := TX8) (N := 1) hx hb hts in_X8 hown hK.1 hP 0 rfl rfl 0 (by decide) (hts _ q250) (fun _ h9 => h9) rfl dX8_lane_15 ?_
  refine z_instB (C := "[I") hx hb hown (hts _ q662) hP 1 rfl ((hK.1.2 0 _ rfl).2.nm rfl rfl) (hK.2.2 ("[I", "[S") (by decide +kernel)) dX8_lane_18 ?_
  refine lv_if_eq (tgt := 28) hx hb dX8_lane_21 (by decide) (fun _ => ?_) (fun c_2 => absurd (by decide) c_2)
  refine lv_aload_n hx hb dX8_lane_28 rfl (lv_at hl 0 rfl) ?_
  refine va_get (D := G.1) (ci := 8) (v := .ref h_r) (C := RX8) (T := TX8) (N := 1) hx hb hts in_X8 hown hK.1 hP 0 rfl rfl 0 (by decide) (hts _ q250) (fun _ h9 => h9) rfl dX8_lane_29 ?_
  refine z_instA hx hb hown (hts _ q663) hP 1 rfl ((hK.1.2 0 _ rfl).2.nm rfl rfl) dX8_lane_32 ?_
  refine lv_if_eq (tgt := 42) hx hb dX8_lane_35 (by decide) (fun c_3 => absurd c_3 (by decide)) (fun _ => ?_)
  refine lv_iconst (v := (2 : Int32)) hx hb dX8_lane_38 (by decide) ?_
  refine lv_goto (tgt := 43) hx hb dX8_lane_39 (by decide) ?_
  have hP9 := hP
  have hD9 := hD
  exact W.iret (v := (2 : Int32)) hx hb hr (fun t ht hW => ⟨⟨(2 : Int32), (), rfl, hw, by rw [ht]; exact hP9, hD9⟩, hS.F ht⟩) hS.2.2 dX8_lane_43
/-! BattleBench.Sheet.size()I -/
def wp_X8_size_I (rn : Nat) (rw : Nat → Int32) (Q : Int32 → Prop) : Prop :=
  Q (nI rn)
set_option maxHeartbeats 4000000 in
theorem mt_X8_size_I (l : Launch) (G : GT) (h h_r : Nat) (sz : Nat) (rn : Nat) (rw : Nat → Int32) (Q : Int32 → Prop) (hw : wp_X8_size_I rn rw Q) : Met l yX8_size (ws_ yX8_size cX8_size 3 (some .int)) ({ frames := 0, cells := 0, slots := 0, locals := 0 } : Room) (va_Pc [.ref h] (fun U => U.heap.size = sz ∧ va_P G.1 gCl [oc h 8 [.ref h_r], ai G h_r rn rw] U.heap ∧ gK G U ∧ va_D (fun _ => True) [oc h 8 [.ref h_r], ai G h_r rn rw])) ((fun A => (va_Qi (fun (r : Int32) (u : Unit) => Q r ) (fun u t => va_P G.1 gCl [oc h 8 [.ref h_r], ai G h_r rn rw] t.heap ∧ va_D A [oc h 8 [.ref h_r], ai G h_r rn rw]) A)) (va_A [oc h 8 [.ref h_r], ai G h_r rn rw] sz)) 0 0 (va_A [oc h 8 [.ref h_r], ai G h_r rn rw] sz) := by
  refine Met.ofW (cc := cX8_size) (maxL := 3) (ret := (some .int)) (by decide) rfl ?_
  intro p e s m args below meth c s₁ B hml hv
  obtain ⟨rfl, hsz, hP, hK, hD0⟩ := hv
  have hx := B.exec
  have hb := B.bytes
  have hr := B.returns
  have hts := atoms_spec (ws := (ws_ yX8_size cX8_size 3 (some .int))) B.pre
  have hts : ∀ w ∈ lw_all, w.before _ s = true := fun w h => hts w (List.mem_cons_of_mem _ h)
  have hown : s.vm.findClass RX8 = some m.cls := findClass_of_methodNamed B.named
  have hlocks := B.notSynchronized
  subst hsz
  have hD := hD0.self (sz := s.heap.size)
  generalize hAe : va_A [oc h 8 [.ref h_r], ai G h_r rn rw] s.heap.size = A at hD ⊢
  have hA : ∀ q : Nat, s.heap.size ≤ q → A q := fun q h => by rw [← hAe]; exact Or.inr h
  have hS : va_S A s.heap s.heap [] := va_S.rf
  have C : Cx p s m meth c cX8_size 3 (some .int) RX8 ([.ref h] : List Value).toArray G A := ⟨hx, hb, hr, hlocks, hml, hown, hts, hK, hA⟩
  have hl := lv_entry ([.ref h]) (n := 3) (Nat.le_of_ble_eq_true rfl)
  rw [lg_entry_eq]
  generalize (lg_sl ([.ref h]) ++ List.replicate (3 - (lg_sl ([.ref h])).length) Slot.unset).toArray = ls at hl ⊢
  have hl : lv_has ls 3 [(0, .ref h)] := hl
  unfold wp_X8_size_I at hw
  refine lv_aload_n hx hb dX8_size_0 rfl (lv_at hl 0 rfl) ?_
  refine va_get (D := G.1) (ci := 8) (v := .ref h_r) (C := RX8) (T := TX8) (N := 1) hx hb hts in_X8 hown hK.1 hP 0 rfl rfl 0 (by decide) (hts _ q250) (fun _ h9 => h9) rfl dX8_size_1 ?_
  refine lv_astore_n (lv' := [(2, .ref h_r), (0, .ref h)]) hx hb dX8_size_4 rfl hl (by decide) rfl (fun ls hl => ?_)
  refine lv_aload_n hx hb dX8_size_5 rfl (lv_at hl 0 rfl) ?_
  refine z_instB (C := "[I") hx hb hown (hts _ q661) hP 1 rfl ((hK.1.2 0 _ rfl).2.nm rfl rfl) (hK.2.2 ("[I", "[B") (by decide +kernel)) dX8_size_6 ?_
  refine lv_if_eq (tgt := 20) hx hb dX8_size_9 (by decide) (fun _ => ?_) (fun c_1 => absurd (by decide) c_1)
  refine lv_aload_n hx hb dX8_size_20 rfl (lv_at hl 1 rfl) ?_
  refine va_get (D := G.1) (ci := 8) (v := .ref h_r) (C := RX8) (T := TX8) (N := 1) hx hb hts in_X8 hown hK.1 hP 0 rfl rfl 0 (by decide) (hts _ q250) (fun _ h9 => h9) rfl dX8_size_21 ?_
  refine lv_astore_n (lv' := [(2, .ref h_r), (0, .ref h)]) hx hb dX8_size_24 rfl hl (by decide) rfl (fun ls hl => ?_)
  refine lv_aload_n hx hb dX8_size_25 rfl (lv_at hl 0 rfl) ?_
  refine z_instB (C := "[I") hx hb hown (hts _ q662) hP 1 rfl ((hK.1.2 0 _ rfl).2.nm rfl rfl) (hK.2.2 ("[I", "[S") (by decide +kernel)) dX8_size_26 ?_
  refine lv_if_eq (tgt := 40) hx hb dX8_size_29 (by decide) (fun _ => ?_) (fun c_2 => absurd (by decide) c_2)
  refine lv_aload_n hx hb dX8_size_40 rfl (lv_at hl 1 rfl) ?_
  refine va_get (D := G.1) (ci := 8) (v := .ref h_r) (C := RX8) (T := TX8) (N := 1) hx hb hts in_X8 hown hK.1 hP 0 rfl rfl 0 (by decide) (hts _ q250) (fun _ h9 => h9) rfl dX8_size_41 ?_
  refine lv_astore_n (lv' := [(2, .ref h_r), (0, .ref h)]) hx hb dX8_size_44 rfl hl (by decide) rfl (fun ls hl => ?_)
  refine lv_aload_n hx hb dX8_size_45 rfl (lv_at hl 0 rfl) ?_
  refine z_instA hx hb hown (hts _ q663) hP 1 rfl ((hK.1.2 0 _ rfl).2.nm rfl rfl) dX8_size_46 ?_
  refine lv_if_eq (tgt := 62) hx hb dX8_size_49 (by decide) (fun c_3 => absurd c_3 (by decide)) (fun _ => ?_)
  refine lv_aload_n hx hb dX8_size_52 rfl (lv_at hl 0 rfl) ?_
  refine va_castA hx hb hown (hts _ q663) hP 1 rfl ((hK.1.2 0 _ rfl).2.nm rfl rfl) dX8_size_53 ?_
  refine lv_astore_n (lv' := [(1, .ref h_r), (2, .ref h_r), (0, .ref h)]) hx hb dX8_size_56 rfl hl (by decide) rfl (fun ls hl => ?_)
  refine lv_aload_n hx hb dX8_size_57 rfl (lv_at hl 0 rfl) ?_
  refine va_alen (v := (nI rn)) hx hb hK.1 hP 1 0 rfl rfl rfl dX8_size_58 ?_
  refine lv_goto (tgt := 70) hx hb dX8_size_59 (by decide) ?_
  have hP9 := hP
  have hD9 := hD
  exact W.iret (v := (nI rn)) hx hb hr (fun t ht hW => ⟨⟨(nI rn), (), rfl, hw, by rw [ht]; exact hP9, hD9⟩, hS.F ht⟩) hS.2.2 dX8_size_70
/-! BattleBench.Sheet.get(I)J -/
def wp_X8_get_I (rn : Nat) (rw : Nat → Int32) (p1 : Int32) (Q : Int64 → Prop) : Prop :=
  (vp_in p1 rn ∧ Q (Int32.toInt64 (rw p1.toNatClampNeg)))
set_option maxHeartbeats 4000000 in
theorem mt_X8_get_I (l : Launch) (G : GT) (h h_r : Nat) (sz : Nat) (rn : Nat) (rw : Nat → Int32) (p1 : Int32) (Q : Int64 → Prop) (hw : wp_X8_get_I rn rw p1 Q) : Met l yX8_get (ws_ yX8_get cX8_get 4 (some .long)) ({ frames := 0, cells := 0, slots := 0, locals := 0 } : Room) (va_Pc [.ref h, .int p1] (fun U => U.heap.size = sz ∧ va_P G.1 gCl [oc h 8 [.ref h_r], ai G h_r rn rw] U.heap ∧ gK G U ∧ va_D (fun _ => True) [oc h 8 [.ref h_r], ai G h_r rn rw])) ((fun A => (va_Ql (fun (r : Int64) (u : Unit) => Q r ) (fun u t => va_P G.1 gCl [oc h 8 [.ref h_r], ai G h_r rn rw] t.heap ∧ va_D A [oc h 8 [.ref h_r], ai G h_r rn rw]) A)) (va_A [oc h 8 [.ref h_r], ai G h_r rn rw] sz)) 0 0 (va_A [oc h 8 [.ref h_r], ai G h_r rn rw] sz) := by
  refine Met.ofW (cc := cX8_get) (maxL := 4) (ret := (some .long)) (by decide) rfl ?_
  intro p e s m args below meth c s₁ B hml hv
  obtain ⟨rfl, hsz, hP, hK, hD0⟩ := hv
  have hx := B.exec
  have hb := B.bytes
  have hr := B.returns
  have hts := atoms_spec (ws := (ws_ yX8_get cX8_get 4 (some .long))) B.pre
  have hts : ∀ w ∈ lw_all, w.before _ s = true := fun w h => hts w (List.mem_cons_of_mem _ h)
  have hown : s.vm.findClass RX8 = some m.cls := findClass_of_methodNamed B.named
  have hlocks := B.notSynchronized
  subst hsz
  have hD := hD0.self (sz := s.heap.size)
  generalize hAe : va_A [oc h 8 [.ref h_r], ai G h_r rn rw] s.heap.size = A at hD ⊢
  have hA : ∀ q : Nat, s.heap.size ≤ q → A q := fun q h => by rw [← hAe]; exact Or.inr h
  have hS : va_S A s.heap s.heap [] := va_S.rf
  have C : Cx p s m meth c cX8_get 4 (some .long) RX8 ([.ref h, .int p1] : List Value).toArray G A := ⟨hx, hb, hr, hlocks, hml, hown, hts, hK, hA⟩
  have hl := lv_entry ([.ref h, .int p1]) (n := 4) (Nat.le_of_ble_eq_true rfl)
  rw [lg_entry_eq]
  generalize (lg_sl ([.ref h, .int p1]) ++ List.replicate (4 - (lg_sl ([.ref h, .int p1])).length) Slot.unset).toArray = ls at hl ⊢
  have hl : lv_has ls 4 [(0, .ref h), (1, .int p1)] := hl
  unfold wp_X8_get_I at hw
  refine lv_aload_n hx hb dX8_get_0 rfl (lv_at hl 0 rfl) ?_
  refine va_get (D := G.1) (ci := 8) (v := .ref h_r) (C := RX8) (T := TX8) (N := 1) hx hb hts in_X8 hown hK.1 hP 0 rfl rfl 0 (by decide) (hts _ q250) (fun _ h9 => h9) rfl dX8_get_1 ?_
  refine lv_astore_n (lv' := [(3, .ref h_r), (0, .ref h), (1, .int p1)]) hx hb dX8_get_4 rfl hl (by decide) rfl (fun ls hl => ?_)
  refine lv_aload_n hx hb dX8_get_5 rfl (lv_at hl 0 rfl) ?_
  refine z_instB (C := "[I") hx hb hown (hts _ q661) hP 1 rfl ((hK.1.2 0 _ rfl).2.nm rfl rfl) (hK.2.2 ("[I", "[B") (by decide +kernel)) dX8_get_6 ?_
  refine lv_if_eq (tgt := 22) hx hb dX8_get_9 (by decide) (fun _ => ?_) (fun c_1 => absurd (by decide) c_1)
  refine lv_aload_n hx hb dX8_get_22 rfl (lv_at hl 1 rfl) ?_
  refine va_get (D := G.1) (ci := 8) (v := .ref h_r) (C := RX8) (T := TX8) (N := 1) hx hb hts in_X8 hown hK.1 hP 0 rfl rfl 0 (by decide) (hts _ q250) (fun _ h9 => h9) rfl dX8_get_23 ?_
  refine lv_astore_n (lv' := [(3, .ref h_r), (0, .ref h), (1, .int p1)]) hx hb dX8_get_26 rfl hl (by decide) rfl (fun ls hl => ?_)
  refine lv_aload_n hx hb dX8_get_27 rfl (lv_at hl 0 rfl) ?_
  refine z_instB (C := "[I") hx hb hown (hts _ q662) hP 1 rfl ((hK.1.2 0 _ rfl).2.nm rfl rfl) (hK.2.2 ("[I", "[S") (by decide +kernel)) dX8_get_28 ?_
  refine lv_if_eq (tgt := 44) hx hb dX8_get_31 (by decide) (fun _ => ?_) (fun c_2 => absurd (by decide) c_2)
  refine lv_aload_n hx hb dX8_get_44 rfl (lv_at hl 1 rfl) ?_
  refine va_get (D := G.1) (ci := 8) (v := .ref h_r) (C := RX8) (T := TX8) (N := 1) hx hb hts in_X8 hown hK.1 hP 0 rfl rfl 0 (by decide) (hts _ q250) (fun _ h9 => h9) rfl dX8_get_45 ?_
  refine lv_astore_n (lv' := [(3, .ref h_r), (0, .ref h), (1, .int p1)]) hx hb dX8_get_48 rfl hl (by decide) rfl (fun ls hl => ?_)
  refine lv_aload_n hx hb dX8_get_49 rfl (lv_at hl 0 rfl) ?_
  refine z_instA hx hb hown (hts _ q663) hP 1 rfl ((hK.1.2 0 _ rfl).2.nm rfl rfl) dX8_get_50 ?_
  refine lv_if_eq (tgt := 68) hx hb dX8_get_53 (by decide) (fun c_3 => absurd c_3 (by decide)) (fun _ => ?_)
  refine lv_aload_n hx hb dX8_get_56 rfl (lv_at hl 0 rfl) ?_
  refine va_castA hx hb hown (hts _ q663) hP 1 rfl ((hK.1.2 0 _ rfl).2.nm rfl rfl) dX8_get_57 ?_
  refine lv_astore_n (lv' := [(2, .ref h_r), (3, .ref h_r), (0, .ref h), (1, .int p1)]) hx hb dX8_get_60 rfl hl (by decide) rfl (fun ls hl => ?_)
  refine lv_aload_n hx hb dX8_get_61 rfl (lv_at hl 0 rfl) ?_
  refine lv_iload_n hx hb dX8_get_62 rfl (lv_at hl 3 rfl) ?_
  obtain ⟨i_4, hw⟩ := hw
  refine z_iald hx hb hK.1 hP 1 0 rfl rfl i_4 dX8_get_63 (k := p1.toNatClampNeg) rfl ?_
  refine lv_i2l hx hb dX8_get_64 rfl ?_
  refine lv_goto (tgt := 77) hx hb dX8_get_65 (by decide) ?_
  have hP9 := hP
  have hD9 := hD
  exact W.lret (v := (Int32.toInt64 (rw p1.toNatClampNeg))) hx hb hr (fun t ht hW => ⟨⟨(Int32.toInt64 (rw p1.toNatClampNeg)), (), rfl, hw, by rw [ht]; exact hP9, hD9⟩, hS.F ht⟩) hS.2.2 dX8_get_77
/-! BattleBench.Sheet.lane()I -/
def wp_X8_lane_J (rn : Nat) (rw : Nat → Int64) (Q : Int32 → Prop) : Prop :=
  Q (3 : Int32)
set_option maxHeartbeats 4000000 in
theorem mt_X8_lane_J (l : Launch) (G : GT) (h h_r : Nat) (sz : Nat) (rn : Nat) (rw : Nat → Int64) (Q : Int32 → Prop) (hw : wp_X8_lane_J rn rw Q) : Met l yX8_lane (ws_ yX8_lane cX8_lane 1 (some .int)) ({ frames := 0, cells := 0, slots := 0, locals := 0 } : Room) (va_Pc [.ref h] (fun U => U.heap.size = sz ∧ va_P G.1 gCl [oc h 8 [.ref h_r], al G h_r rn rw] U.heap ∧ gK G U ∧ va_D (fun _ => True) [oc h 8 [.ref h_r], al G h_r rn rw])) ((fun A => (va_Qi (fun (r : Int32) (u : Unit) => Q r ) (fun u t => va_P G.1 gCl [oc h 8 [.ref h_r], al G h_r rn rw] t.heap ∧ va_D A [oc h 8 [.ref h_r], al G h_r rn rw]) A)) (va_A [oc h 8 [.ref h_r], al G h_r rn rw] sz)) 0 0 (va_A [oc h 8 [.ref h_r], al G h_r rn rw] sz) := by
  refine Met.ofW (cc := cX8_lane) (maxL := 1) (ret := (some .int)) (by decide) rfl ?_
  intro p e s m args below meth c s₁ B hml hv
  obtain ⟨rfl, hsz, hP, hK, hD0⟩ := hv
  have hx := B.exec
  have hb := B.bytes
  have hr := B.returns
  have hts := atoms_spec (ws := (ws_ yX8_lane cX8_lane 1 (some .int))) B.pre
  have hts : ∀ w ∈ lw_all, w.before _ s = true := fun w h => hts w (List.mem_cons_of_mem _ h)
  have hown : s.vm.findClass RX8 = some m.cls := findClass_of_methodNamed B.named
  have hlocks := B.notSynchronized
  subst hsz
  have hD := hD0.self (sz := s.heap.size)
  generalize hAe : va_A [oc h 8 [.ref h_r], al G h_r rn rw] s.heap.size = A at hD ⊢
  have hA : ∀ q : Nat, s.heap.size ≤ q → A q := fun q h => by rw [← hAe]; exact Or.inr h
  have hS : va_S A s.heap s.heap [] := va_S.rf
  have C : Cx p s m meth c cX8_lane 1 (some .int) RX8 ([.ref h] : List Value).toArray G A := ⟨hx, hb, hr, hlocks, hml, hown, hts, hK, hA⟩
  have hl := lv_entry ([.ref h]) (n := 1) (Nat.le_of_ble_eq_true rfl)
  rw [lg_entry_eq]
  generalize (lg_sl ([.ref h]) ++ List.replicate (1 - (lg_sl ([.ref h])).length) Slot.unset).toArray = ls at hl ⊢
  have hl : lv_has ls 1 [(0, .ref h)] := hl
  unfold wp_X8_lane_J at hw
  refine lv_aload_n hx hb dX8_lane_0 rfl (lv_at hl 0 rfl) ?_
  refine va_get (D := G.1) (ci := 8) (v := .ref h_r) (C := RX8) (T := TX8) (N := 1) hx hb hts in_X8 hown hK.1 hP 0 rfl rfl 0 (by decide) (hts _ q250) (fun _ h9 => h9) rfl dX8_lane_1 ?_
  refine z_instB (C := "[J") hx hb hown (hts _ q661) hP 1 rfl ((hK.1.2 1 _ rfl).2.nm rfl rfl) (hK.2.2 ("[J", "[B") (by decide +kernel)) dX8_lane_4 ?_
  refine lv_if_eq (tgt := 14) hx hb dX8_lane_7 (by decide) (fun _ => ?_) (fun c_1 => absurd (by decide) c_1)
  refine lv_aload_n hx hb dX8_lane_14 rfl (lv_at hl 0 rfl) ?_
  refine va_get (D := G.1) (ci := 8) (v := .ref h_r) (C := RX8) (T := TX8) (N := 1) hx hb hts in_X8 hown hK.1 hP 0 rfl rfl 0 (by decide) (hts _ q250) (fun _ h9 => h9) rfl dX8_lane_15 ?_
  refine z_instB (C := "[J") hx hb hown (hts _ q662) hP 1 rfl ((hK.1.2 1 _ rfl).2.nm rfl rfl) (hK.2.2 ("[J", "[S") (by decide +kernel)) dX8_lane_18 ?_
  refine lv_if_eq (tgt := 28) hx hb dX8_lane_21 (by decide) (fun _ => ?_) (fun c_2 => absurd (by decide) c_2)
  refine lv_aload_n hx hb dX8_lane_28 rfl (lv_at hl 0 rfl) ?_
  refine va_get (D := G.1) (ci := 8) (v := .ref h_r) (C := RX8) (T := TX8) (N := 1) hx hb hts in_X8 hown hK.1 hP 0 rfl rfl 0 (by decide) (hts _ q250) (fun _ h9 => h9) rfl dX8_lane_29 ?_
  refine z_instB (C := "[J") hx hb hown (hts _ q663) hP 1 rfl ((hK.1.2 1 _ rfl).2.nm rfl rfl) (hK.2.2 ("[J", "[I") (by decide +kernel)) dX8_lane_32 ?_
  refine lv_if_eq (tgt := 42) hx hb dX8_lane_35 (by decide) (fun _ => ?_) (fun c_3 => absurd (by decide) c_3)
  refine lv_iconst (v := (3 : Int32)) hx hb dX8_lane_42 (by decide) ?_
  have hP9 := hP
  have hD9 := hD
  exact W.iret (v := (3 : Int32)) hx hb hr (fun t ht hW => ⟨⟨(3 : Int32), (), rfl, hw, by rw [ht]; exact hP9, hD9⟩, hS.F ht⟩) hS.2.2 dX8_lane_43
/-! BattleBench.Sheet.size()I -/
def wp_X8_size_J (rn : Nat) (rw : Nat → Int64) (Q : Int32 → Prop) : Prop :=
  Q (nI rn)
set_option maxHeartbeats 4000000 in
theorem mt_X8_size_J (l : Launch) (G : GT) (h h_r : Nat) (sz : Nat) (rn : Nat) (rw : Nat → Int64) (Q : Int32 → Prop) (hw : wp_X8_size_J rn rw Q) : Met l yX8_size (ws_ yX8_size cX8_size 3 (some .int)) ({ frames := 0, cells := 0, slots := 0, locals := 0 } : Room) (va_Pc [.ref h] (fun U => U.heap.size = sz ∧ va_P G.1 gCl [oc h 8 [.ref h_r], al G h_r rn rw] U.heap ∧ gK G U ∧ va_D (fun _ => True) [oc h 8 [.ref h_r], al G h_r rn rw])) ((fun A => (va_Qi (fun (r : Int32) (u : Unit) => Q r ) (fun u t => va_P G.1 gCl [oc h 8 [.ref h_r], al G h_r rn rw] t.heap ∧ va_D A [oc h 8 [.ref h_r], al G h_r rn rw]) A)) (va_A [oc h 8 [.ref h_r], al G h_r rn rw] sz)) 0 0 (va_A [oc h 8 [.ref h_r], al G h_r rn rw] sz) := by
  refine Met.ofW (cc := cX8_size) (maxL := 3) (ret := (some .int)) (by decide) rfl ?_
  intro p e s m args below meth c s₁ B hml hv
  obtain ⟨rfl, hsz, hP, hK, hD0⟩ := hv
  have hx := B.exec
  have hb := B.bytes
  have hr := B.returns
  have hts := atoms_spec (ws := (ws_ yX8_size cX8_size 3 (some .int))) B.pre
  have hts : ∀ w ∈ lw_all, w.before _ s = true := fun w h => hts w (List.mem_cons_of_mem _ h)
  have hown : s.vm.findClass RX8 = some m.cls := findClass_of_methodNamed B.named
  have hlocks := B.notSynchronized
  subst hsz
  have hD := hD0.self (sz := s.heap.size)
  generalize hAe : va_A [oc h 8 [.ref h_r], al G h_r rn rw] s.heap.size = A at hD ⊢
  have hA : ∀ q : Nat, s.heap.size ≤ q → A q := fun q h => by rw [← hAe]; exact Or.inr h
  have hS : va_S A s.heap s.heap [] := va_S.rf
  have C : Cx p s m meth c cX8_size 3 (some .int) RX8 ([.ref h] : List Value).toArray G A := ⟨hx, hb, hr, hlocks, hml, hown, hts, hK, hA⟩
  have hl := lv_entry ([.ref h]) (n := 3) (Nat.le_of_ble_eq_true rfl)
  rw [lg_entry_eq]
  generalize (lg_sl ([.ref h]) ++ List.replicate (3 - (lg_sl ([.ref h])).length) Slot.unset).toArray = ls at hl ⊢
  have hl : lv_has ls 3 [(0, .ref h)] := hl
  unfold wp_X8_size_J at hw
  refine lv_aload_n hx hb dX8_size_0 rfl (lv_at hl 0 rfl) ?_
  refine va_get (D := G.1) (ci := 8) (v := .ref h_r) (C := RX8) (T := TX8) (N := 1) hx hb hts in_X8 hown hK.1 hP 0 rfl rfl 0 (by decide) (hts _ q250) (fun _ h9 => h9) rfl dX8_size_1 ?_
  refine lv_astore_n (lv' := [(2, .ref h_r), (0, .ref h)]) hx hb dX8_size_4 rfl hl (by decide) rfl (fun ls hl => ?_)
  refine lv_aload_n hx hb dX8_size_5 rfl (lv_at hl 0 rfl) ?_
  refine z_instB (C := "[J") hx hb hown (hts _ q661) hP 1 rfl ((hK.1.2 1 _ rfl).2.nm rfl rfl) (hK.2.2 ("[J", "[B") (by decide +kernel)) dX8_size_6 ?_
  refine lv_if_eq (tgt := 20) hx hb dX8_size_9 (by decide) (fun _ => ?_) (fun c_1 => absurd (by decide) c_1)
  refine lv_aload_n hx hb dX8_size_20 rfl (lv_at hl 1 rfl) ?_
  refine va_get (D := G.1) (ci := 8) (v := .ref h_r) (C := RX8) (T := TX8) (N := 1) hx hb hts in_X8 hown hK.1 hP 0 rfl rfl 0 (by decide) (hts _ q250) (fun _ h9 => h9) rfl dX8_size_21 ?_
  refine lv_astore_n (lv' := [(2, .ref h_r), (0, .ref h)]) hx hb dX8_size_24 rfl hl (by decide) rfl (fun ls hl => ?_)
  refine lv_aload_n hx hb dX8_size_25 rfl (lv_at hl 0 rfl) ?_
  refine z_instB (C := "[J") hx hb hown (hts _ q662) hP 1 rfl ((hK.1.2 1 _ rfl).2.nm rfl rfl) (hK.2.2 ("[J", "[S") (by decide +kernel)) dX8_size_26 ?_
  refine lv_if_eq (tgt := 40) hx hb dX8_size_29 (by decide) (fun _ => ?_) (fun c_2 => absurd (by decide) c_2)
  refine lv_aload_n hx hb dX8_size_40 rfl (lv_at hl 1 rfl) ?_
  refine va_get (D := G.1) (ci := 8) (v := .ref h_r) (C := RX8) (T := TX8) (N := 1) hx hb hts in_X8 hown hK.1 hP 0 rfl rfl 0 (by decide) (hts _ q250) (fun _ h9 => h9) rfl dX8_size_41 ?_
  refine lv_astore_n (lv' := [(2, .ref h_r), (0, .ref h)]) hx hb dX8_size_44 rfl hl (by decide) rfl (fun ls hl => ?_)
  refine lv_aload_n hx hb dX8_size_45 rfl (lv_at hl 0 rfl) ?_
  refine z_instB (C := "[J") hx hb hown (hts _ q663) hP 1 rfl ((hK.1.2 1 _ rfl).2.nm rfl rfl) (hK.2.2 ("[J", "[I") (by decide +kernel)) dX8_size_46 ?_
  refine lv_if_eq (tgt := 62) hx hb dX8_size_49 (by decide) (fun _ => ?_) (fun c_3 => absurd (by decide) c_3)
  refine lv_aload_n hx hb dX8_size_62 rfl (lv_at hl 1 rfl) ?_
  refine va_get (D := G.1) (ci := 8) (v := .ref h_r) (C := RX8) (T := TX8) (N := 1) hx hb hts in_X8 hown hK.1 hP 0 rfl rfl 0 (by decide) (hts _ q250) (fun _ h9 => h9) rfl dX8_size_63 ?_
  refine va_castA hx hb hown (hts _ q668) hP 1 rfl ((hK.1.2 1 _ rfl).2.nm rfl rfl) dX8_size_66 ?_
  refine va_alen (v := (nI rn)) hx hb hK.1 hP 1 1 rfl rfl rfl dX8_size_69 ?_
  have hP9 := hP
  have hD9 := hD
  exact W.iret (v := (nI rn)) hx hb hr (fun t ht hW => ⟨⟨(nI rn), (), rfl, hw, by rw [ht]; exact hP9, hD9⟩, hS.F ht⟩) hS.2.2 dX8_size_70
/-! BattleBench.Sheet.get(I)J -/
def wp_X8_get_J (rn : Nat) (rw : Nat → Int64) (p1 : Int32) (Q : Int64 → Prop) : Prop :=
  (vp_in p1 rn ∧ Q (rw p1.toNatClampNeg))
set_option maxHeartbeats 4000000 in
theorem mt_X8_get_J (l : Launch) (G : GT) (h h_r : Nat) (sz : Nat) (rn : Nat) (rw : Nat → Int64) (p1 : Int32) (Q : Int64 → Prop) (hw : wp_X8_get_J rn rw p1 Q) : Met l yX8_get (ws_ yX8_get cX8_get 4 (some .long)) ({ frames := 0, cells := 0, slots := 0, locals := 0 } : Room) (va_Pc [.ref h, .int p1] (fun U => U.heap.size = sz ∧ va_P G.1 gCl [oc h 8 [.ref h_r], al G h_r rn rw] U.heap ∧ gK G U ∧ va_D (fun _ => True) [oc h 8 [.ref h_r], al G h_r rn rw])) ((fun A => (va_Ql (fun (r : Int64) (u : Unit) => Q r ) (fun u t => va_P G.1 gCl [oc h 8 [.ref h_r], al G h_r rn rw] t.heap ∧ va_D A [oc h 8 [.ref h_r], al G h_r rn rw]) A)) (va_A [oc h 8 [.ref h_r], al G h_r rn rw] sz)) 0 0 (va_A [oc h 8 [.ref h_r], al G h_r rn rw] sz) := by
  refine Met.ofW (cc := cX8_get) (maxL := 4) (ret := (some .long)) (by decide) rfl ?_
  intro p e s m args below meth c s₁ B hml hv
  obtain ⟨rfl, hsz, hP, hK, hD0⟩ := hv
  have hx := B.exec
  have hb := B.bytes
  have hr := B.returns
  have hts := atoms_spec (ws := (ws_ yX8_get cX8_get 4 (some .long))) B.pre
  have hts : ∀ w ∈ lw_all, w.before _ s = true := fun w h => hts w (List.mem_cons_of_mem _ h)
  have hown : s.vm.findClass RX8 = some m.cls := findClass_of_methodNamed B.named
  have hlocks := B.notSynchronized
  subst hsz
  have hD := hD0.self (sz := s.heap.size)
  generalize hAe : va_A [oc h 8 [.ref h_r], al G h_r rn rw] s.heap.size = A at hD ⊢
  have hA : ∀ q : Nat, s.heap.size ≤ q → A q := fun q h => by rw [← hAe]; exact Or.inr h
  have hS : va_S A s.heap s.heap [] := va_S.rf
  have C : Cx p s m meth c cX8_get 4 (some .long) RX8 ([.ref h, .int p1] : List Value).toArray G A := ⟨hx, hb, hr, hlocks, hml, hown, hts, hK, hA⟩
  have hl := lv_entry ([.ref h, .int p1]) (n := 4) (Nat.le_of_ble_eq_true rfl)
  rw [lg_entry_eq]
  generalize (lg_sl ([.ref h, .int p1]) ++ List.replicate (4 - (lg_sl ([.ref h, .int p1])).length) Slot.unset).toArray = ls at hl ⊢
  have hl : lv_has ls 4 [(0, .ref h), (1, .int p1)] := hl
  unfold wp_X8_get_J at hw
  refine lv_aload_n hx hb dX8_get_0 rfl (lv_at hl 0 rfl) ?_
  refine va_get (D := G.1) (ci := 8) (v := .ref h_r) (C := RX8) (T := TX8) (N := 1) hx hb hts in_X8 hown hK.1 hP 0 rfl rfl 0 (by decide) (hts _ q250) (fun _ h9 => h9) rfl dX8_get_1 ?_
  refine lv_astore_n (lv' := [(3, .ref h_r), (0, .ref h), (1, .int p1)]) hx hb dX8_get_4 rfl hl (by decide) rfl (fun ls hl => ?_)
  refine lv_aload_n hx hb dX8_get_5 rfl (lv_at hl 0 rfl) ?_
  refine z_instB (C := "[J") hx hb hown (hts _ q661) hP 1 rfl ((hK.1.2 1 _ rfl).2.nm rfl rfl) (hK.2.2 ("[J", "[B") (by decide +kernel)) dX8_get_6 ?_
  refine lv_if_eq (tgt := 22) hx hb dX8_get_9 (by decide) (fun _ => ?_) (fun c_1 => absurd (by decide) c_1)
  refine lv_aload_n hx hb dX8_get_22 rfl (lv_at hl 1 rfl) ?_
  refine va_get (D := G.1) (ci := 8) (v := .ref h_r) (C := RX8) (T := TX8) (N := 1) hx hb hts in_X8 hown hK.1 hP 0 rfl rfl 0 (by decide) (hts _ q250) (fun _ h9 => h9) rfl dX8_get_23 ?_
  refine lv_astore_n (lv' := [(3, .ref h_r), (0, .ref h), (1, .int p1)]) hx hb dX8_get_26 rfl hl (by decide) rfl (fun ls hl => ?_)
  refine lv_aload_n hx hb dX8_get_27 rfl (lv_at hl 0 rfl) ?_
  refine z_instB (C := "[J") hx hb hown (hts _ q662) hP 1 rfl ((hK.1.2 1 _ rfl).2.nm rfl rfl) (hK.2.2 ("[J", "[S") (by decide +kernel)) dX8_get_28 ?_
  refine lv_if_eq (tgt := 44) hx hb dX8_get_31 (by decide) (fun _ => ?_) (fun c_2 => absurd (by decide) c_2)
  refine lv_aload_n hx hb dX8_get_44 rfl (lv_at hl 1 rfl) ?_
  refine va_get (D := G.1) (ci := 8) (v := .ref h_r) (C := RX8) (T := TX8) (N := 1) hx hb hts in_X8 hown hK.1 hP 0 rfl rfl 0 (by decide) (hts _ q250) (fun _ h9 => h9) rfl dX8_get_45 ?_
  refine lv_astore_n (lv' := [(3, .ref h_r), (0, .ref h), (1, .int p1)]) hx hb dX8_get_48 rfl hl (by decide) rfl (fun ls hl => ?_)
  refine lv_aload_n hx hb dX8_get_49 rfl (lv_at hl 0 rfl) ?_
  refine z_instB (C := "[J") hx hb hown (hts _ q663) hP 1 rfl ((hK.1.2 1 _ rfl).2.nm rfl rfl) (hK.2.2 ("[J", "[I") (by decide +kernel)) dX8_get_50 ?_
  refine lv_if_eq (tgt := 68) hx hb dX8_get_53 (by decide) (fun _ => ?_) (fun c_3 => absurd (by decide) c_3)
  refine lv_aload_n hx hb dX8_get_68 rfl (lv_at hl 1 rfl) ?_
  refine va_get (D := G.1) (ci := 8) (v := .ref h_r) (C := RX8) (T := TX8) (N := 1) hx hb hts in_X8 hown hK.1 hP 0 rfl rfl 0 (by decide) (hts _ q250) (fun _ h9 => h9) rfl dX8_get_69 ?_
  refine va_castA hx hb hown (hts _ q668) hP 1 rfl ((hK.1.2 1 _ rfl).2.nm rfl rfl) dX8_get_72 ?_
  refine lv_iload_n hx hb dX8_get_75 rfl (lv_at hl 2 rfl) ?_
  obtain ⟨i_4, hw⟩ := hw
  refine z_lald hx hb hK.1 hP 1 1 rfl rfl i_4 dX8_get_76 (k := p1.toNatClampNeg) rfl ?_
  have hP9 := hP
  have hD9 := hD
  exact W.lret (v := (rw p1.toNatClampNeg)) hx hb hr (fun t ht hW => ⟨⟨(rw p1.toNatClampNeg), (), rfl, hw, by rw [ht]; exact hP9, hD9⟩, hS.F ht⟩) hS.2.2 dX8_get_77
/-! BattleBench.Sheet.lay(IIJ)V -/
def wp_X8_lay_B (rn : Nat) (rw : Nat → Int32) (p1 : Int32) (p2 : Int32) (p3 : Int64) (Q : ((Nat → Int32)) → Prop) : Prop :=
  ((p1 = (0 : Int32) → (∀ v_2 : Int32, v_2 = (Int8.toInt32 (Int32.toInt8 (Int64.toInt32 p3))) → (vp_in p2 rn ∧ ∀ f_4 : Nat → Int32, f_4 = upd rw p2.toNatClampNeg (vp_nar .byte v_2) → Q f_4))) ∧ (p1 = (1 : Int32) → False) ∧ (p1 = (2 : Int32) → False) ∧ (¬ p1 = (0 : Int32) ∧ ¬ p1 = (1 : Int32) ∧ ¬ p1 = (2 : Int32) → False))
set_option maxHeartbeats 4000000 in
theorem mt_X8_lay_B (l : Launch) (G : GT) (h h_r : Nat) (sz : Nat) (rn : Nat) (rw : Nat → Int32) (p1 : Int32) (p2 : Int32) (p3 : Int64) (Q : ((Nat → Int32)) → Prop) (hw : wp_X8_lay_B rn rw p1 p2 p3 Q) : Met l yX8_lay (ws_ yX8_lay cX8_lay 5 none) ({ frames := 0, cells := 0, slots := 0, locals := 0 } : Room) (va_Pc [.ref h, .int p1, .int p2, .long p3] (fun U => U.heap.size = sz ∧ va_P G.1 gCl [oc h 8 [.ref h_r], ay G h_r rn rw] U.heap ∧ gK G U ∧ va_D (fun _ => True) [oc h 8 [.ref h_r], ay G h_r rn rw])) ((fun A => (va_Qv (fun (u : (Nat → Int32)) => Q u) (fun u t => va_P G.1 gCl [oc h 8 [.ref h_r], ay G h_r rn u] t.heap ∧ va_D A [oc h 8 [.ref h_r], ay G h_r rn u]) A)) (va_A [oc h 8 [.ref h_r], ay G h_r rn rw] sz)) 0 0 (va_A [oc h 8 [.ref h_r], ay G h_r rn rw] sz) := by
  refine Met.ofW (cc := cX8_lay) (maxL := 5) (ret := none) (by decide) rfl ?_
  intro p e s m args below meth c s₁ B hml hv
  obtain ⟨rfl, hsz, hP, hK, hD0⟩ := hv
  have hx := B.exec
  have hb := B.bytes
  have hr := B.returns
  have hts := atoms_spec (ws := (ws_ yX8_lay cX8_lay 5 none)) B.pre
  have hts : ∀ w ∈ lw_all, w.before _ s = true := fun w h => hts w (List.mem_cons_of_mem _ h)
  have hown : s.vm.findClass RX8 = some m.cls := findClass_of_methodNamed B.named
  have hlocks := B.notSynchronized
  subst hsz
  have hD := hD0.self (sz := s.heap.size)
  generalize hAe : va_A [oc h 8 [.ref h_r], ay G h_r rn rw] s.heap.size = A at hD ⊢
  have hA : ∀ q : Nat, s.heap.size ≤ q → A q := fun q h => by rw [← hAe]; exact Or.inr h
  have hS : va_S A s.heap s.heap [] := va_S.rf
  have C : Cx p s m meth c cX8_lay 5 none RX8 ([.ref h, .int p1, .int p2, .long p3] : List Value).toArray G A := ⟨hx, hb, hr, hlocks, hml, hown, hts, hK, hA⟩
  have hl := lv_entry ([.ref h, .int p1, .int p2, .long p3]) (n := 5) (Nat.le_of_ble_eq_true rfl)
  rw [lg_entry_eq]
  generalize (lg_sl ([.ref h, .int p1, .int p2, .long p3]) ++ List.replicate (5 - (lg_sl ([.ref h, .int p1, .int p2, .long p3])).length) Slot.unset).toArray = ls at hl ⊢
  have hl : lv_has ls 5 [(0, .ref h), (1, .int p1), (2, .int p2), (3, .long p3)] := hl
  unfold wp_X8_lay_B at hw
  refine lv_iload_n hx hb dX8_lay_0 rfl (lv_at hl 1 rfl) ?_
  by_cases c_1 : p1 = (0 : Int32)
  · replace hw := hw.1 c_1
    refine z_tabIn (k := (0 : Int32)) (off := 27) (tgt := 28) hx hb dX8_lay_1 c_1 (by decide) rfl (by decide) ?_
    refine lv_aload_n hx hb dX8_lay_28 rfl (lv_at hl 0 rfl) ?_
    refine va_get (D := G.1) (ci := 8) (v := .ref h_r) (C := RX8) (T := TX8) (N := 1) hx hb hts in_X8 hown hK.1 hP 0 rfl rfl 0 (by decide) (hts _ q250) (fun _ h9 => h9) rfl dX8_lay_29 ?_
    refine va_castA hx hb hown (hts _ q661) hP 1 rfl ((hK.1.2 3 _ rfl).2.nm rfl rfl) dX8_lay_32 ?_
    refine lv_iload_n hx hb dX8_lay_35 rfl (lv_at hl 2 rfl) ?_
    refine lv_lload_n hx hb dX8_lay_36 rfl (lv_at hl 3 rfl) ?_
    refine lv_l2i hx hb dX8_lay_37 rfl ?_
    refine lv_i2b hx hb dX8_lay_38 rfl ?_
    refine lv_topi (fun v_2 ev_2 => ?_)
    replace hw := hw v_2 ev_2
    obtain ⟨i_3, hw⟩ := hw
    refine z_bast hx hb hK.1 hP hD hS 1 3 rfl rfl i_3 dX8_lay_39 (k := p2.toNatClampNeg) rfl (fun f_4 ef_4 H locs hP hD hS => ?_)
    replace hw := hw f_4 ef_4
    have hP : va_P G.1 gCl [oc h 8 [.ref h_r], ay G h_r rn f_4] H := hP
    have hD : va_D A [oc h 8 [.ref h_r], ay G h_r rn f_4] := hD
    refine lv_goto (tgt := 82) hx hb dX8_lay_40 (by decide) ?_
    have hP9 := hP
    have hD9 := hD
    exact W.vret hx hb hr (fun t ht hW => ⟨⟨f_4, rfl, hw, by rw [ht]; exact hP9, hD9⟩, hS.F ht⟩) hS.2.2 dX8_lay_82
  by_cases c_5 : p1 = (1 : Int32)
  · replace hw := hw.2.1 c_5
    refine z_tabIn (k := (1 : Int32)) (off := 42) (tgt := 43) hx hb dX8_lay_1 c_5 (by decide) rfl (by decide) ?_
    refine lv_aload_n hx hb dX8_lay_43 rfl (lv_at hl 0 rfl) ?_
    refine va_get (D := G.1) (ci := 8) (v := .ref h_r) (C := RX8) (T := TX8) (N := 1) hx hb hts in_X8 hown hK.1 hP 0 rfl rfl 0 (by decide) (hts _ q250) (fun _ h9 => h9) rfl dX8_lay_44 ?_
    exact False.elim hw
  by_cases c_6 : p1 = (2 : Int32)
  · replace hw := hw.2.2.1 c_6
    refine z_tabIn (k := (2 : Int32)) (off := 57) (tgt := 58) hx hb dX8_lay_1 c_6 (by decide) rfl (by decide) ?_
    refine lv_aload_n hx hb dX8_lay_58 rfl (lv_at hl 0 rfl) ?_
    refine va_get (D := G.1) (ci := 8) (v := .ref h_r) (C := RX8) (T := TX8) (N := 1) hx hb hts in_X8 hown hK.1 hP 0 rfl rfl 0 (by decide) (hts _ q250) (fun _ h9 => h9) rfl dX8_lay_59 ?_
    exact False.elim hw
  replace hw := hw.2.2.2 ⟨c_1, c_5, c_6⟩
  refine lv_tableOut (tgt := 72) hx hb dX8_lay_1 (z_tabOut (0) 3 [(0 : Int32), (1 : Int32), (2 : Int32)] (by decide +kernel) (List.forall_mem_cons.mpr ⟨c_1, (List.forall_mem_cons.mpr ⟨c_5, (List.forall_mem_cons.mpr ⟨c_6, fun _ h9 => absurd h9 List.not_mem_nil⟩)⟩)⟩)) (by decide) ?_
  refine lv_aload_n hx hb dX8_lay_72 rfl (lv_at hl 0 rfl) ?_
  refine va_get (D := G.1) (ci := 8) (v := .ref h_r) (C := RX8) (T := TX8) (N := 1) hx hb hts in_X8 hown hK.1 hP 0 rfl rfl 0 (by decide) (hts _ q250) (fun _ h9 => h9) rfl dX8_lay_73 ?_
  exact False.elim hw
/-! BattleBench.Sheet.lay(IIJ)V -/
def wp_X8_lay_S (rn : Nat) (rw : Nat → Int32) (p1 : Int32) (p2 : Int32) (p3 : Int64) (Q : ((Nat → Int32)) → Prop) : Prop :=
  ((p1 = (0 : Int32) → False) ∧ (p1 = (1 : Int32) → (∀ v_3 : Int32, v_3 = (Int16.toInt32 (Int32.toInt16 (Int64.toInt32 p3))) → (vp_in p2 rn ∧ ∀ f_5 : Nat → Int32, f_5 = upd rw p2.toNatClampNeg (vp_nar .short v_3) → Q f_5))) ∧ (p1 = (2 : Int32) → False) ∧ (¬ p1 = (0 : Int32) ∧ ¬ p1 = (1 : Int32) ∧ ¬ p1 = (2 : Int32) → False))
set_option maxHeartbeats 4000000 in
theorem mt_X8_lay_S (l : Launch) (G : GT) (h h_r : Nat) (sz : Nat) (rn : Nat) (rw : Nat → Int32) (p1 : Int32) (p2 : Int32) (p3 : Int64) (Q : ((Nat → Int32)) → Prop) (hw : wp_X8_lay_S rn rw p1 p2 p3 Q) : Met l yX8_lay (ws_ yX8_lay cX8_lay 5 none) ({ frames := 0, cells := 0, slots := 0, locals := 0 } : Room) (va_Pc [.ref h, .int p1, .int p2, .long p3] (fun U => U.heap.size = sz ∧ va_P G.1 gCl [oc h 8 [.ref h_r], ah G h_r rn rw] U.heap ∧ gK G U ∧ va_D (fun _ => True) [oc h 8 [.ref h_r], ah G h_r rn rw])) ((fun A => (va_Qv (fun (u : (Nat → Int32)) => Q u) (fun u t => va_P G.1 gCl [oc h 8 [.ref h_r], ah G h_r rn u] t.heap ∧ va_D A [oc h 8 [.ref h_r], ah G h_r rn u]) A)) (va_A [oc h 8 [.ref h_r], ah G h_r rn rw] sz)) 0 0 (va_A [oc h 8 [.ref h_r], ah G h_r rn rw] sz) := by
  refine Met.ofW (cc := cX8_lay) (maxL := 5) (ret := none) (by decide) rfl ?_
  intro p e s m args below meth c s₁ B hml hv
  obtain ⟨rfl, hsz, hP, hK, hD0⟩ := hv
  have hx := B.exec
  have hb := B.bytes
  have hr := B.returns
  have hts := atoms_spec (ws := (ws_ yX8_lay cX8_lay 5 none)) B.pre
  have hts : ∀ w ∈ lw_all, w.before _ s = true := fun w h => hts w (List.mem_cons_of_mem _ h)
  have hown : s.vm.findClass RX8 = some m.cls := findClass_of_methodNamed B.named
  have hlocks := B.notSynchronized
  subst hsz
  have hD := hD0.self (sz := s.heap.size)
  generalize hAe : va_A [oc h 8 [.ref h_r], ah G h_r rn rw] s.heap.size = A at hD ⊢
  have hA : ∀ q : Nat, s.heap.size ≤ q → A q := fun q h => by rw [← hAe]; exact Or.inr h
  have hS : va_S A s.heap s.heap [] := va_S.rf
  have C : Cx p s m meth c cX8_lay 5 none RX8 ([.ref h, .int p1, .int p2, .long p3] : List Value).toArray G A := ⟨hx, hb, hr, hlocks, hml, hown, hts, hK, hA⟩
  have hl := lv_entry ([.ref h, .int p1, .int p2, .long p3]) (n := 5) (Nat.le_of_ble_eq_true rfl)
  rw [lg_entry_eq]
  generalize (lg_sl ([.ref h, .int p1, .int p2, .long p3]) ++ List.replicate (5 - (lg_sl ([.ref h, .int p1, .int p2, .long p3])).length) Slot.unset).toArray = ls at hl ⊢
  have hl : lv_has ls 5 [(0, .ref h), (1, .int p1), (2, .int p2), (3, .long p3)] := hl
  unfold wp_X8_lay_S at hw
  refine lv_iload_n hx hb dX8_lay_0 rfl (lv_at hl 1 rfl) ?_
  by_cases c_1 : p1 = (0 : Int32)
  · replace hw := hw.1 c_1
    refine z_tabIn (k := (0 : Int32)) (off := 27) (tgt := 28) hx hb dX8_lay_1 c_1 (by decide) rfl (by decide) ?_
    refine lv_aload_n hx hb dX8_lay_28 rfl (lv_at hl 0 rfl) ?_
    refine va_get (D := G.1) (ci := 8) (v := .ref h_r) (C := RX8) (T := TX8) (N := 1) hx hb hts in_X8 hown hK.1 hP 0 rfl rfl 0 (by decide) (hts _ q250) (fun _ h9 => h9) rfl dX8_lay_29 ?_
    exact False.elim hw
  by_cases c_2 : p1 = (1 : Int32)
  · replace hw := hw.2.1 c_2
    refine z_tabIn (k := (1 : Int32)) (off := 42) (tgt := 43) hx hb dX8_lay_1 c_2 (by decide) rfl (by decide) ?_
    refine lv_aload_n hx hb dX8_lay_43 rfl (lv_at hl 0 rfl) ?_
    refine va_get (D := G.1) (ci := 8) (v := .ref h_r) (C := RX8) (T := TX8) (N := 1) hx hb hts in_X8 hown hK.1 hP 0 rfl rfl 0 (by decide) (hts _ q250) (fun _ h9 => h9) rfl dX8_lay_44 ?_
    refine va_castA hx hb hown (hts _ q662) hP 1 rfl ((hK.1.2 4 _ rfl).2.nm rfl rfl) dX8_lay_47 ?_
    refine lv_iload_n hx hb dX8_lay_50 rfl (lv_at hl 2 rfl) ?_
    refine lv_lload_n hx hb dX8_lay_51 rfl (lv_at hl 3 rfl) ?_
    refine lv_l2i hx hb dX8_lay_52 rfl ?_
    refine lv_i2s hx hb dX8_lay_53 rfl ?_
    refine lv_topi (fun v_3 ev_3 => ?_)
    replace hw := hw v_3 ev_3
    obtain ⟨i_4, hw⟩ := hw
    refine z_sast hx hb hK.1 hP hD hS 1 4 rfl rfl i_4 dX8_lay_54 (k := p2.toNatClampNeg) rfl (fun f_5 ef_5 H locs hP hD hS => ?_)
    replace hw := hw f_5 ef_5
    have hP : va_P G.1 gCl [oc h 8 [.ref h_r], ah G h_r rn f_5] H := hP
    have hD : va_D A [oc h 8 [.ref h_r], ah G h_r rn f_5] := hD
    refine lv_goto (tgt := 82) hx hb dX8_lay_55 (by decide) ?_
    have hP9 := hP
    have hD9 := hD
    exact W.vret hx hb hr (fun t ht hW => ⟨⟨f_5, rfl, hw, by rw [ht]; exact hP9, hD9⟩, hS.F ht⟩) hS.2.2 dX8_lay_82
  by_cases c_6 : p1 = (2 : Int32)
  · replace hw := hw.2.2.1 c_6
    refine z_tabIn (k := (2 : Int32)) (off := 57) (tgt := 58) hx hb dX8_lay_1 c_6 (by decide) rfl (by decide) ?_
    refine lv_aload_n hx hb dX8_lay_58 rfl (lv_at hl 0 rfl) ?_
    refine va_get (D := G.1) (ci := 8) (v := .ref h_r) (C := RX8) (T := TX8) (N := 1) hx hb hts in_X8 hown hK.1 hP 0 rfl rfl 0 (by decide) (hts _ q250) (fun _ h9 => h9) rfl dX8_lay_59 ?_
    exact False.elim hw
  replace hw := hw.2.2.2 ⟨c_1, c_2, c_6⟩
  refine lv_tableOut (tgt := 72) hx hb dX8_lay_1 (z_tabOut (0) 3 [(0 : Int32), (1 : Int32), (2 : Int32)] (by decide +kernel) (List.forall_mem_cons.mpr ⟨c_1, (List.forall_mem_cons.mpr ⟨c_2, (List.forall_mem_cons.mpr ⟨c_6, fun _ h9 => absurd h9 List.not_mem_nil⟩)⟩)⟩)) (by decide) ?_
  refine lv_aload_n hx hb dX8_lay_72 rfl (lv_at hl 0 rfl) ?_
  refine va_get (D := G.1) (ci := 8) (v := .ref h_r) (C := RX8) (T := TX8) (N := 1) hx hb hts in_X8 hown hK.1 hP 0 rfl rfl 0 (by decide) (hts _ q250) (fun _ h9 => h9) rfl dX8_lay_73 ?_
  exact False.elim hw
/-! BattleBench.Sheet.lay(IIJ)V -/
def wp_X8_lay_I (rn : Nat) (rw : Nat → Int32) (p1 : Int32) (p2 : Int32) (p3 : Int64) (Q : ((Nat → Int32)) → Prop) : Prop :=
  ((p1 = (0 : Int32) → False) ∧ (p1 = (1 : Int32) → False) ∧ (p1 = (2 : Int32) → (∀ v_4 : Int32, v_4 = (Int64.toInt32 p3) → (vp_in p2 rn ∧ ∀ f_6 : Nat → Int32, f_6 = upd rw p2.toNatClampNeg v_4 → Q f_6))) ∧ (¬ p1 = (0 : Int32) ∧ ¬ p1 = (1 : Int32) ∧ ¬ p1 = (2 : Int32) → False))
set_option maxHeartbeats 4000000 in
theorem mt_X8_lay_I (l : Launch) (G : GT) (h h_r : Nat) (sz : Nat) (rn : Nat) (rw : Nat → Int32) (p1 : Int32) (p2 : Int32) (p3 : Int64) (Q : ((Nat → Int32)) → Prop) (hw : wp_X8_lay_I rn rw p1 p2 p3 Q) : Met l yX8_lay (ws_ yX8_lay cX8_lay 5 none) ({ frames := 0, cells := 0, slots := 0, locals := 0 } : Room) (va_Pc [.ref h, .int p1, .int p2, .long p3] (fun U => U.heap.size = sz ∧ va_P G.1 gCl [oc h 8 [.ref h_r], ai G h_r rn rw] U.heap ∧ gK G U ∧ va_D (fun _ => True) [oc h 8 [.ref h_r], ai G h_r rn rw])) ((fun A => (va_Qv (fun (u : (Nat → Int32)) => Q u) (fun u t => va_P G.1 gCl [oc h 8 [.ref h_r], ai G h_r rn u] t.heap ∧ va_D A [oc h 8 [.ref h_r], ai G h_r rn u]) A)) (va_A [oc h 8 [.ref h_r], ai G h_r rn rw] sz)) 0 0 (va_A [oc h 8 [.ref h_r], ai G h_r rn rw] sz) := by
  refine Met.ofW (cc := cX8_lay) (maxL := 5) (ret := none) (by decide) rfl ?_
  intro p e s m args below meth c s₁ B hml hv
  obtain ⟨rfl, hsz, hP, hK, hD0⟩ := hv
  have hx := B.exec
  have hb := B.bytes
  have hr := B.returns
  have hts := atoms_spec (ws := (ws_ yX8_lay cX8_lay 5 none)) B.pre
  have hts : ∀ w ∈ lw_all, w.before _ s = true := fun w h => hts w (List.mem_cons_of_mem _ h)
  have hown : s.vm.findClass RX8 = some m.cls := findClass_of_methodNamed B.named
  have hlocks := B.notSynchronized
  subst hsz
  have hD := hD0.self (sz := s.heap.size)
  generalize hAe : va_A [oc h 8 [.ref h_r], ai G h_r rn rw] s.heap.size = A at hD ⊢
  have hA : ∀ q : Nat, s.heap.size ≤ q → A q := fun q h => by rw [← hAe]; exact Or.inr h
  have hS : va_S A s.heap s.heap [] := va_S.rf
  have C : Cx p s m meth c cX8_lay 5 none RX8 ([.ref h, .int p1, .int p2, .long p3] : List Value).toArray G A := ⟨hx, hb, hr, hlocks, hml, hown, hts, hK, hA⟩
  have hl := lv_entry ([.ref h, .int p1, .int p2, .long p3]) (n := 5) (Nat.le_of_ble_eq_true rfl)
  rw [lg_entry_eq]
  generalize (lg_sl ([.ref h, .int p1, .int p2, .long p3]) ++ List.replicate (5 - (lg_sl ([.ref h, .int p1, .int p2, .long p3])).length) Slot.unset).toArray = ls at hl ⊢
  have hl : lv_has ls 5 [(0, .ref h), (1, .int p1), (2, .int p2), (3, .long p3)] := hl
  unfold wp_X8_lay_I at hw
  refine lv_iload_n hx hb dX8_lay_0 rfl (lv_at hl 1 rfl) ?_
  by_cases c_1 : p1 = (0 : Int32)
  · replace hw := hw.1 c_1
    refine z_tabIn (k := (0 : Int32)) (off := 27) (tgt := 28) hx hb dX8_lay_1 c_1 (by decide) rfl (by decide) ?_
    refine lv_aload_n hx hb dX8_lay_28 rfl (lv_at hl 0 rfl) ?_
    refine va_get (D := G.1) (ci := 8) (v := .ref h_r) (C := RX8) (T := TX8) (N := 1) hx hb hts in_X8 hown hK.1 hP 0 rfl rfl 0 (by decide) (hts _ q250) (fun _ h9 => h9) rfl dX8_lay_29 ?_
    exact False.elim hw
  by_cases c_2 : p1 = (1 : Int32)
  · replace hw := hw.2.1 c_2
    refine z_tabIn (k := (1 : Int32)) (off := 42) (tgt := 43) hx hb dX8_lay_1 c_2 (by decide) rfl (by decide) ?_
    refine lv_aload_n hx hb dX8_lay_43 rfl (lv_at hl 0 rfl) ?_
    refine va_get (D := G.1) (ci := 8) (v := .ref h_r) (C := RX8) (T := TX8) (N := 1) hx hb hts in_X8 hown hK.1 hP 0 rfl rfl 0 (by decide) (hts _ q250) (fun _ h9 => h9) rfl dX8_lay_44 ?_
    exact False.elim hw
  by_cases c_3 : p1 = (2 : Int32)
  · replace hw := hw.2.2.1 c_3
    refine z_tabIn (k := (2 : Int32)) (off := 57) (tgt := 58) hx hb dX8_lay_1 c_3 (by decide) rfl (by decide) ?_
    refine lv_aload_n hx hb dX8_lay_58 rfl (lv_at hl 0 rfl) ?_
    refine va_get (D := G.1) (ci := 8) (v := .ref h_r) (C := RX8) (T := TX8) (N := 1) hx hb hts in_X8 hown hK.1 hP 0 rfl rfl 0 (by decide) (hts _ q250) (fun _ h9 => h9) rfl dX8_lay_59 ?_
    refine va_castA hx hb hown (hts _ q663) hP 1 rfl ((hK.1.2 0 _ rfl).2.nm rfl rfl) dX8_lay_62 ?_
    refine lv_iload_n hx hb dX8_lay_65 rfl (lv_at hl 2 rfl) ?_
    refine lv_lload_n hx hb dX8_lay_66 rfl (lv_at hl 3 rfl) ?_
    refine lv_l2i hx hb dX8_lay_67 rfl ?_
    refine lv_topi (fun v_4 ev_4 => ?_)
    replace hw := hw v_4 ev_4
    obtain ⟨i_5, hw⟩ := hw
    refine z_iast hx hb hK.1 hP hD hS 1 0 rfl rfl i_5 dX8_lay_68 (k := p2.toNatClampNeg) rfl (fun f_6 ef_6 H locs hP hD hS => ?_)
    replace hw := hw f_6 ef_6
    have hP : va_P G.1 gCl [oc h 8 [.ref h_r], ai G h_r rn f_6] H := hP
    have hD : va_D A [oc h 8 [.ref h_r], ai G h_r rn f_6] := hD
    refine lv_goto (tgt := 82) hx hb dX8_lay_69 (by decide) ?_
    have hP9 := hP
    have hD9 := hD
    exact W.vret hx hb hr (fun t ht hW => ⟨⟨f_6, rfl, hw, by rw [ht]; exact hP9, hD9⟩, hS.F ht⟩) hS.2.2 dX8_lay_82
  replace hw := hw.2.2.2 ⟨c_1, c_2, c_3⟩
  refine lv_tableOut (tgt := 72) hx hb dX8_lay_1 (z_tabOut (0) 3 [(0 : Int32), (1 : Int32), (2 : Int32)] (by decide +kernel) (List.forall_mem_cons.mpr ⟨c_1, (List.forall_mem_cons.mpr ⟨c_2, (List.forall_mem_cons.mpr ⟨c_3, fun _ h9 => absurd h9 List.not_mem_nil⟩)⟩)⟩)) (by decide) ?_
  refine lv_aload_n hx hb dX8_lay_72 rfl (lv_at hl 0 rfl) ?_
  refine va_get (D := G.1) (ci := 8) (v := .ref h_r) (C := RX8) (T := TX8) (N := 1) hx hb hts in_X8 hown hK.1 hP 0 rfl rfl 0 (by decide) (hts _ q250) (fun _ h9 => h9) rfl dX8_lay_73 ?_
  exact False.elim hw
/-! BattleBench.Sheet.lay(IIJ)V -/
def wp_X8_lay_J (rn : Nat) (rw : Nat → Int64) (p1 : Int32) (p2 : Int32) (p3 : Int64) (Q : ((Nat → Int64)) → Prop) : Prop :=
  ((p1 = (0 : Int32) → False) ∧ (p1 = (1 : Int32) → False) ∧ (p1 = (2 : Int32) → False) ∧ (¬ p1 = (0 : Int32) ∧ ¬ p1 = (1 : Int32) ∧ ¬ p1 = (2 : Int32) → (vp_in p2 rn ∧ ∀ f_5 : Nat → Int64, f_5 = vp_updL rw p2.toNatClampNeg p3 → Q f_5)))
set_option maxHeartbeats 4000000 in
theorem mt_X8_lay_J (l : Launch) (G : GT) (h h_r : Nat) (sz : Nat) (rn : Nat) (rw : Nat → Int64) (p1 : Int32) (p2 : Int32) (p3 : Int64) (Q : ((Nat → Int64)) → Prop) (hw : wp_X8_lay_J rn rw p1 p2 p3 Q) : Met l yX8_lay (ws_ yX8_lay cX8_lay 5 none) ({ frames := 0, cells := 0, slots := 0, locals := 0 } : Room) (va_Pc [.ref h, .int p1, .int p2, .long p3] (fun U => U.heap.size = sz ∧ va_P G.1 gCl [oc h 8 [.ref h_r], al G h_r rn rw] U.heap ∧ gK G U ∧ va_D (fun _ => True) [oc h 8 [.ref h_r], al G h_r rn rw])) ((fun A => (va_Qv (fun (u : (Nat → Int64)) => Q u) (fun u t => va_P G.1 gCl [oc h 8 [.ref h_r], al G h_r rn u] t.heap ∧ va_D A [oc h 8 [.ref h_r], al G h_r rn u]) A)) (va_A [oc h 8 [.ref h_r], al G h_r rn rw] sz)) 0 0 (va_A [oc h 8 [.ref h_r], al G h_r rn rw] sz) := by
  refine Met.ofW (cc := cX8_lay) (maxL := 5) (ret := none) (by decide) rfl ?_
  intro p e s m args below meth c s₁ B hml hv
  obtain ⟨rfl, hsz, hP, hK, hD0⟩ := hv
  have hx := B.exec
  have hb := B.bytes
  have hr := B.returns
  have hts := atoms_spec (ws := (ws_ yX8_lay cX8_lay 5 none)) B.pre
  have hts : ∀ w ∈ lw_all, w.before _ s = true := fun w h => hts w (List.mem_cons_of_mem _ h)
  have hown : s.vm.findClass RX8 = some m.cls := findClass_of_methodNamed B.named
  have hlocks := B.notSynchronized
  subst hsz
  have hD := hD0.self (sz := s.heap.size)
  generalize hAe : va_A [oc h 8 [.ref h_r], al G h_r rn rw] s.heap.size = A at hD ⊢
  have hA : ∀ q : Nat, s.heap.size ≤ q → A q := fun q h => by rw [← hAe]; exact Or.inr h
  have hS : va_S A s.heap s.heap [] := va_S.rf
  have C : Cx p s m meth c cX8_lay 5 none RX8 ([.ref h, .int p1, .int p2, .long p3] : List Value).toArray G A := ⟨hx, hb, hr, hlocks, hml, hown, hts, hK, hA⟩
  have hl := lv_entry ([.ref h, .int p1, .int p2, .long p3]) (n := 5) (Nat.le_of_ble_eq_true rfl)
  rw [lg_entry_eq]
  generalize (lg_sl ([.ref h, .int p1, .int p2, .long p3]) ++ List.replicate (5 - (lg_sl ([.ref h, .int p1, .int p2, .long p3])).length) Slot.unset).toArray = ls at hl ⊢
  have hl : lv_has ls 5 [(0, .ref h), (1, .int p1), (2, .int p2), (3, .long p3)] := hl
  unfold wp_X8_lay_J at hw
  refine lv_iload_n hx hb dX8_lay_0 rfl (lv_at hl 1 rfl) ?_
  by_cases c_1 : p1 = (0 : Int32)
  · replace hw := hw.1 c_1
    refine z_tabIn (k := (0 : Int32)) (off := 27) (tgt := 28) hx hb dX8_lay_1 c_1 (by decide) rfl (by decide) ?_
    refine lv_aload_n hx hb dX8_lay_28 rfl (lv_at hl 0 rfl) ?_
    refine va_get (D := G.1) (ci := 8) (v := .ref h_r) (C := RX8) (T := TX8) (N := 1) hx hb hts in_X8 hown hK.1 hP 0 rfl rfl 0 (by decide) (hts _ q250) (fun _ h9 => h9) rfl dX8_lay_29 ?_
    exact False.elim hw
  by_cases c_2 : p1 = (1 : Int32)
  · replace hw := hw.2.1 c_2
    refine z_tabIn (k := (1 : Int32)) (off := 42) (tgt := 43) hx hb dX8_lay_1 c_2 (by decide) rfl (by decide) ?_
    refine lv_aload_n hx hb dX8_lay_43 rfl (lv_at hl 0 rfl) ?_
    refine va_get (D := G.1) (ci := 8) (v := .ref h_r) (C := RX8) (T := TX8) (N := 1) hx hb hts in_X8 hown hK.1 hP 0 rfl rfl 0 (by decide) (hts _ q250) (fun _ h9 => h9) rfl dX8_lay_44 ?_
    exact False.elim hw
  by_cases c_3 : p1 = (2 : Int32)
  · replace hw := hw.2.2.1 c_3
    refine z_tabIn (k := (2 : Int32)) (off := 57) (tgt := 58) hx hb dX8_lay_1 c_3 (by decide) rfl (by decide) ?_
    refine lv_aload_n hx hb dX8_lay_58 rfl (lv_at hl 0 rfl) ?_
    refine va_get (D := G.1) (ci := 8) (v := .ref h_r) (C := RX8) (T := TX8) (N := 1) hx hb hts in_X8 hown hK.1 hP 0 rfl rfl 0 (by decide) (hts _ q250) (fun _ h9 => h9) rfl dX8_lay_59 ?_
    exact False.elim hw
  replace hw := hw.2.2.2 ⟨c_1, c_2, c_3⟩
  refine lv_tableOut (tgt := 72) hx hb dX8_lay_1 (z_tabOut (0) 3 [(0 : Int32), (1 : Int32), (2 : Int32)] (by decide +kernel) (List.forall_mem_cons.mpr ⟨c_1, (List.forall_mem_cons.mpr ⟨c_2, (List.forall_mem_cons.mpr ⟨c_3, fun _ h9 => absurd h9 List.not_mem_nil⟩)⟩)⟩)) (by decide) ?_
  refine lv_aload_n hx hb dX8_lay_72 rfl (lv_at hl 0 rfl) ?_
  refine va_get (D := G.1) (ci := 8) (v := .ref h_r) (C := RX8) (T := TX8) (N := 1) hx hb hts in_X8 hown hK.1 hP 0 rfl rfl 0 (by decide) (hts _ q250) (fun _ h9 => h9) rfl dX8_lay_73 ?_
  refine va_castA hx hb hown (hts _ q668) hP 1 rfl ((hK.1.2 1 _ rfl).2.nm rfl rfl) dX8_lay_76 ?_
  refine lv_iload_n hx hb dX8_lay_79 rfl (lv_at hl 2 rfl) ?_
  refine lv_lload_n hx hb dX8_lay_80 rfl (lv_at hl 3 rfl) ?_
  obtain ⟨i_4, hw⟩ := hw
  refine z_last hx hb hK.1 hP hD hS 1 1 rfl rfl i_4 dX8_lay_81 (k := p2.toNatClampNeg) rfl (fun f_5 ef_5 H locs hP hD hS => ?_)
  replace hw := hw f_5 ef_5
  have hP : va_P G.1 gCl [oc h 8 [.ref h_r], al G h_r rn f_5] H := hP
  have hD : va_D A [oc h 8 [.ref h_r], al G h_r rn f_5] := hD
  have hP9 := hP
  have hD9 := hD
  exact W.vret hx hb hr (fun t ht hW => ⟨⟨f_5, rfl, hw, by rw [ht]; exact hP9, hD9⟩, hS.F ht⟩) hS.2.2 dX8_lay_82
/-! BattleBench.lacks(IIII)I -/
def wp_X0_lacks_B (rn : Nat) (rw : Nat → Int32) (p1 : Int32) (p2 : Int32) (p3 : Int32) (p4 : Int32) (Q : Int32 → Prop) : Prop :=
  (vp_in p1 4 ∧ wp_X8_lane_B rn rw  (fun r_2 => (((r_2 = p2) → (((p3 < 0) → Q (-13 : Int32)) ∧ (¬ (p3 < 0) → wp_X8_size_B rn rw  (fun r_5 => (((p3 ≤ (r_5 - p4)) → Q (0 : Int32)) ∧ (¬ (p3 ≤ (r_5 - p4)) → Q (-13 : Int32))))))) ∧ (¬ (r_2 = p2) → Q (-12 : Int32)))))
set_option maxHeartbeats 4000000 in
theorem mt_X0_lacks_B (l : Launch) (G : GT) (h h_kinds h_now h_fault h_tape h_got h_failing h_past h_aside h_best h_tried h_kept h_keptPast h_sheets h_sheets_x h_sheets_x_r : Nat) (shf : Nat → Option Nat) (sz : Nat) (taped : Int32) (reads : Int32) (undoMany : Int32) (keptMany : Int32) (isKept : Int32) (rn : Nat) (rw : Nat → Int32) (p1 : Int32) (p2 : Int32) (p3 : Int32) (p4 : Int32)(hsh : shf p1.toNatClampNeg = some h_sheets_x) (Q : Int32 → Prop) (hw : wp_X0_lacks_B rn rw p1 p2 p3 p4 Q) : Met l yX0_lacks (ws_ yX0_lacks cX0_lacks 6 (some .int)) ({ frames := 1, cells := 0, slots := 0, locals := 22 } : Room) (va_Pc [.ref h, .int p1, .int p2, .int p3, .int p4] (fun U => U.heap.size = sz ∧ va_P G.1 gCl [oc h 0 [.ref h_kinds, .ref h_now, .ref h_fault, .ref h_tape, .int taped, .int reads, .ref h_got, .ref h_failing, .ref h_past, .int undoMany, .ref h_aside, .ref h_best, .ref h_tried, .ref h_kept, .ref h_keptPast, .int keptMany, .int isKept, .ref h_sheets], arf G h_sheets 7 4 shf, oc h_sheets_x 8 [.ref h_sheets_x_r], ay G h_sheets_x_r rn rw] U.heap ∧ gK G U ∧ va_D (fun _ => True) [oc h 0 [.ref h_kinds, .ref h_now, .ref h_fault, .ref h_tape, .int taped, .int reads, .ref h_got, .ref h_failing, .ref h_past, .int undoMany, .ref h_aside, .ref h_best, .ref h_tried, .ref h_kept, .ref h_keptPast, .int keptMany, .int isKept, .ref h_sheets], arf G h_sheets 7 4 shf, oc h_sheets_x 8 [.ref h_sheets_x_r], ay G h_sheets_x_r rn rw])) ((fun A => (va_Qi (fun (r : Int32) (u : Unit) => Q r ) (fun u t => va_P G.1 gCl [oc h 0 [.ref h_kinds, .ref h_now, .ref h_fault, .ref h_tape, .int taped, .int reads, .ref h_got, .ref h_failing, .ref h_past, .int undoMany, .ref h_aside, .ref h_best, .ref h_tried, .ref h_kept, .ref h_keptPast, .int keptMany, .int isKept, .ref h_sheets], arf G h_sheets 7 4 shf, oc h_sheets_x 8 [.ref h_sheets_x_r], ay G h_sheets_x_r rn rw] t.heap ∧ va_D A [oc h 0 [.ref h_kinds, .ref h_now, .ref h_fault, .ref h_tape, .int taped, .int reads, .ref h_got, .ref h_failing, .ref h_past, .int undoMany, .ref h_aside, .ref h_best, .ref h_tried, .ref h_kept, .ref h_keptPast, .int keptMany, .int isKept, .ref h_sheets], arf G h_sheets 7 4 shf, oc h_sheets_x 8 [.ref h_sheets_x_r], ay G h_sheets_x_r rn rw]) A)) (va_A [oc h 0 [.ref h_kinds, .ref h_now, .ref h_fault, .ref h_tape, .int taped, .int reads, .ref h_got, .ref h_failing, .ref h_past, .int undoMany, .ref h_aside, .ref h_best, .ref h_tried, .ref h_kept, .ref h_keptPast, .int keptMany, .int isKept, .ref h_sheets], arf G h_sheets 7 4 shf, oc h_sheets_x 8 [.ref h_sheets_x_r], ay G h_sheets_x_r rn rw] sz)) 0 0 (va_A [oc h 0 [.ref h_kinds, .ref h_now, .ref h_fault, .ref h_tape, .int taped, .int reads, .ref h_got, .ref h_failing, .ref h_past, .int undoMany, .ref h_aside, .ref h_best, .ref h_tried, .ref h_kept, .ref h_keptPast, .int keptMany, .int isKept, .ref h_sheets], arf G h_sheets 7 4 shf, oc h_sheets_x 8 [.ref h_sheets_x_r], ay G h_sheets_x_r rn rw] sz) := by
  refine Met.ofW (cc := cX0_lacks) (maxL := 6) (ret := (some .int)) (by decide) rfl ?_
  intro p e s m args below meth c s₁ B hml hv
  obtain ⟨rfl, hsz, hP, hK, hD0⟩ := hv
  have hx := B.exec
  have hb := B.bytes
  have hr := B.returns
  have hts := atoms_spec (ws := (ws_ yX0_lacks cX0_lacks 6 (some .int))) B.pre
  have hts : ∀ w ∈ lw_all, w.before _ s = true := fun w h => hts w (List.mem_cons_of_mem _ h)
  have hown : s.vm.findClass RX0 = some m.cls := findClass_of_methodNamed B.named
  have hlocks := B.notSynchronized
  subst hsz
  have hD := hD0.self (sz := s.heap.size)
  generalize hAe : va_A [oc h 0 [.ref h_kinds, .ref h_now, .ref h_fault, .ref h_tape, .int taped, .int reads, .ref h_got, .ref h_failing, .ref h_past, .int undoMany, .ref h_aside, .ref h_best, .ref h_tried, .ref h_kept, .ref h_keptPast, .int keptMany, .int isKept, .ref h_sheets], arf G h_sheets 7 4 shf, oc h_sheets_x 8 [.ref h_sheets_x_r], ay G h_sheets_x_r rn rw] s.heap.size = A at hD ⊢
  have hA : ∀ q : Nat, s.heap.size ≤ q → A q := fun q h => by rw [← hAe]; exact Or.inr h
  have hS : va_S A s.heap s.heap [] := va_S.rf
  have C : Cx p s m meth c cX0_lacks 6 (some .int) RX0 ([.ref h, .int p1, .int p2, .int p3, .int p4] : List Value).toArray G A := ⟨hx, hb, hr, hlocks, hml, hown, hts, hK, hA⟩
  have hl := lv_entry ([.ref h, .int p1, .int p2, .int p3, .int p4]) (n := 6) (Nat.le_of_ble_eq_true rfl)
  rw [lg_entry_eq]
  generalize (lg_sl ([.ref h, .int p1, .int p2, .int p3, .int p4]) ++ List.replicate (6 - (lg_sl ([.ref h, .int p1, .int p2, .int p3, .int p4])).length) Slot.unset).toArray = ls at hl ⊢
  have hl : lv_has ls 6 [(0, .ref h), (1, .int p1), (2, .int p2), (3, .int p3), (4, .int p4)] := hl
  unfold wp_X0_lacks_B at hw
  refine lv_aload_n hx hb dX0_lacks_0 rfl (lv_at hl 0 rfl) ?_
  refine va_get (D := G.1) (ci := 0) (v := .ref h_sheets) (C := RX0) (T := TX0) (N := 18) hx hb hts in_X0 hown hK.1 hP 0 rfl rfl 17 (by decide) (hts _ q273) (fun _ h9 => h9) rfl dX0_lacks_1 ?_
  refine lv_iload_n hx hb dX0_lacks_4 rfl (lv_at hl 1 rfl) ?_
  obtain ⟨i_1, hw⟩ := hw
  refine z_aaldS hx hb hK.1 hP 1 7 rfl rfl i_1 dX0_lacks_5 hsh ?_
  refine lv_astore (lv' := [(5, .ref h_sheets_x), (0, .ref h), (1, .int p1), (2, .int p2), (3, .int p3), (4, .int p4)]) hx hb dX0_lacks_6 hl (by decide) rfl (fun ls hl => ?_)
  refine lv_aload hx hb dX0_lacks_8 (lv_at hl 0 rfl) ?_
  refine va_getN (D := G.1) (ci := 8) (v := .ref h_sheets_x_r) (C := RX8) (T := TX8) (N := 1) hx hb hts in_X8 hown hK.1 hP 2 rfl rfl 0 (by decide) (hK.n q251 rfl) (fun _ h9 => h9) rfl dX0_lacks_10 ?_
  refine lv_ifnonnull (tgt := 19) hx hb dX0_lacks_13 (by decide) ?_
  refine lv_aload hx hb dX0_lacks_19 (lv_at hl 0 rfl) ?_
  have hPc := hP.sub (ws' := [oc h_sheets_x 8 [.ref h_sheets_x_r], ay G h_sheets_x_r rn rw]) [2, 3] rfl
  have hDc := hD.sub (ws' := [oc h_sheets_x 8 [.ref h_sheets_x_r], ay G h_sheets_x_r rn rw]) [2, 3] (by decide) rfl
  have hFc := va_free (wc := [oc h_sheets_x 8 [.ref h_sheets_x_r], ay G h_sheets_x_r rn rw]) hD hS hA [2, 3] rfl
  refine va_calli (va_runV (As := []) (rest := []) ⟨hx, hb, hml, hown, hts⟩ (mt_X8_lane_B l G h_sheets_x h_sheets_x_r s.heap.size rn rw  _ hw) (cwV 0 hts (lw_V q657 q658 q659 q64 q660) rfl rfl rfl (by decide +kernel) ⟨Nat.le_of_ble_eq_true rfl, Nat.le_of_ble_eq_true rfl⟩) ⟨fun a U g mk q => by obtain ⟨q0, q1, qP, qK, qD⟩ := q; exact ⟨q0, q1, qP, qK.call, qD⟩, va_recv hK.1 hP (ci := 8) (q0 := 2) rfl rfl, fun U hU hW => ⟨rfl, by rw [hU], by rw [hU]; exact hPc, hK.warm hW, hDc.weaken (fun _ _ _ _ => trivial)⟩⟩ rfl rfl hl.1 rfl (lv_room (Nat.le_of_ble_eq_true rfl)) dX0_lacks_21 ⟨Nat.le_of_ble_eq_true rfl, Nat.le_of_ble_eq_true rfl⟩) hS (fun q _ h => hFc q h) hFc (fun r_2 _ t H1 locs ht hvm hw hB hz1 hk1 hS => ?_)
  obtain ⟨hP1, hD1⟩ := hB
  rw [ht] at hP1
  obtain ⟨hP, hD⟩ := va_join (wr := [oc h 0 [.ref h_kinds, .ref h_now, .ref h_fault, .ref h_tape, .int taped, .int reads, .ref h_got, .ref h_failing, .ref h_past, .int undoMany, .ref h_aside, .ref h_best, .ref h_tried, .ref h_kept, .ref h_keptPast, .int keptMany, .int isKept, .ref h_sheets], arf G h_sheets 7 4 shf]) (w1 := [oc h_sheets_x 8 [.ref h_sheets_x_r], ay G h_sheets_x_r rn rw]) hP hD [2, 3] [0, 1] rfl rfl (by decide) (by decide) hk1 hFc hP1 hD1
  clear hPc hDc hFc hP1 hD1 hz1 hk1 hvm
  generalize H1 = H at hP hS ⊢
  have hP : va_P G.1 gCl [oc h 0 [.ref h_kinds, .ref h_now, .ref h_fault, .ref h_tape, .int taped, .int reads, .ref h_got, .ref h_failing, .ref h_past, .int undoMany, .ref h_aside, .ref h_best, .ref h_tried, .ref h_kept, .ref h_keptPast, .int keptMany, .int isKept, .ref h_sheets], arf G h_sheets 7 4 shf, oc h_sheets_x 8 [.ref h_sheets_x_r], ay G h_sheets_x_r rn rw] H := hP
  have hD : va_D A [oc h 0 [.ref h_kinds, .ref h_now, .ref h_fault, .ref h_tape, .int taped, .int reads, .ref h_got, .ref h_failing, .ref h_past, .int undoMany, .ref h_aside, .ref h_best, .ref h_tried, .ref h_kept, .ref h_keptPast, .int keptMany, .int isKept, .ref h_sheets], arf G h_sheets 7 4 shf, oc h_sheets_x 8 [.ref h_sheets_x_r], ay G h_sheets_x_r rn rw] := hD
  refine lv_iload_n hx hb dX0_lacks_24 rfl (lv_at hl 3 rfl) ?_
  refine lv_icmp_eq (tgt := 31) hx hb dX0_lacks_25 (by decide) (fun c_3 => ?_) (fun c_3 => ?_)
  · replace hw := hw.1 c_3
    refine lv_iload_n hx hb dX0_lacks_31 rfl (lv_at hl 4 rfl) ?_
    refine lv_if_lt (tgt := 47) hx hb dX0_lacks_32 (by decide) (fun c_4 => ?_) (fun c_4 => ?_)
    · replace hw := hw.1 c_4
      refine lv_bipush (v := (-13 : Int32)) hx hb dX0_lacks_47 (by decide) ?_
      refine lv_goto (tgt := 53) hx hb dX0_lacks_49 (by decide) ?_
      have hP9 := hP
      have hD9 := hD
      exact W.iret (v := (-13 : Int32)) hx hb hr (fun t ht hW => ⟨⟨(-13 : Int32), (), rfl, hw, by rw [ht]; exact hP9, hD9⟩, hS.F ht⟩) hS.2.2 dX0_lacks_53
    · replace hw := hw.2 c_4
      refine lv_iload_n hx hb dX0_lacks_35 rfl (lv_at hl 4 rfl) ?_
      refine lv_aload hx hb dX0_lacks_36 (lv_at hl 0 rfl) ?_
      have hPc := hP.sub (ws' := [oc h_sheets_x 8 [.ref h_sheets_x_r], ay G h_sheets_x_r rn rw]) [2, 3] rfl
      have hDc := hD.sub (ws' := [oc h_sheets_x 8 [.ref h_sheets_x_r], ay G h_sheets_x_r rn rw]) [2, 3] (by decide) rfl
      have hFc := va_free (wc := [oc h_sheets_x 8 [.ref h_sheets_x_r], ay G h_sheets_x_r rn rw]) hD hS hA [2, 3] rfl
      refine va_calli (va_runV (As := []) (rest := [.int p3]) ⟨hx, hb, hml, hown, hts⟩ (mt_X8_size_B l G h_sheets_x h_sheets_x_r H.size rn rw  _ hw) (cwV 0 hts (lw_V q664 q665 q666 q64 q667) rfl rfl rfl (by decide +kernel) ⟨Nat.le_of_ble_eq_true rfl, Nat.le_of_ble_eq_true rfl⟩) ⟨fun a U g mk q => by obtain ⟨q0, q1, qP, qK, qD⟩ := q; exact ⟨q0, q1, qP, qK.call, qD⟩, va_recv hK.1 hP (ci := 8) (q0 := 2) rfl rfl, fun U hU hW => ⟨rfl, by rw [hU], by rw [hU]; exact hPc, hK.warm hW, hDc.weaken (fun _ _ _ _ => trivial)⟩⟩ rfl rfl hl.1 rfl (lv_room (Nat.le_of_ble_eq_true rfl)) dX0_lacks_38 ⟨Nat.le_of_ble_eq_true rfl, Nat.le_of_ble_eq_true rfl⟩) hS (fun q _ h => hFc q h) hFc (fun r_5 _ t H1 locs ht hvm hw hB hz1 hk1 hS => ?_)
      obtain ⟨hP1, hD1⟩ := hB
      rw [ht] at hP1
      obtain ⟨hP, hD⟩ := va_join (wr := [oc h 0 [.ref h_kinds, .ref h_now, .ref h_fault, .ref h_tape, .int taped, .int reads, .ref h_got, .ref h_failing, .ref h_past, .int undoMany, .ref h_aside, .ref h_best, .ref h_tried, .ref h_kept, .ref h_keptPast, .int keptMany, .int isKept, .ref h_sheets], arf G h_sheets 7 4 shf]) (w1 := [oc h_sheets_x 8 [.ref h_sheets_x_r], ay G h_sheets_x_r rn rw]) hP hD [2, 3] [0, 1] rfl rfl (by decide) (by decide) hk1 hFc hP1 hD1
      clear hPc hDc hFc hP1 hD1 hz1 hk1 hvm
      generalize H1 = H at hP hS ⊢
      have hP : va_P G.1 gCl [oc h 0 [.ref h_kinds, .ref h_now, .ref h_fault, .ref h_tape, .int taped, .int reads, .ref h_got, .ref h_failing, .ref h_past, .int undoMany, .ref h_aside, .ref h_best, .ref h_tried, .ref h_kept, .ref h_keptPast, .int keptMany, .int isKept, .ref h_sheets], arf G h_sheets 7 4 shf, oc h_sheets_x 8 [.ref h_sheets_x_r], ay G h_sheets_x_r rn rw] H := hP
      have hD : va_D A [oc h 0 [.ref h_kinds, .ref h_now, .ref h_fault, .ref h_tape, .int taped, .int reads, .ref h_got, .ref h_failing, .ref h_past, .int undoMany, .ref h_aside, .ref h_best, .ref h_tried, .ref h_kept, .ref h_keptPast, .int keptMany, .int isKept, .ref h_sheets], arf G h_sheets 7 4 shf, oc h_sheets_x 8 [.ref h_sheets_x_r], ay G h_sheets_x_r rn rw] := hD
      refine lv_iload hx hb dX0_lacks_41 (lv_at hl 5 rfl) ?_
      refine lv_isub hx hb dX0_lacks_43 ?_
      refine lv_icmp_le (tgt := 52) hx hb dX0_lacks_44 (by decide) (fun c_6 => ?_) (fun c_6 => ?_)
      · replace hw := hw.1 c_6
        refine lv_iconst (v := (0 : Int32)) hx hb dX0_lacks_52 (by decide) ?_
        have hP9 := hP
        have hD9 := hD
        exact W.iret (v := (0 : Int32)) hx hb hr (fun t ht hW => ⟨⟨(0 : Int32), (), rfl, hw, by rw [ht]; exact hP9, hD9⟩, hS.F ht⟩) hS.2.2 dX0_lacks_53
      · replace hw := hw.2 c_6
        refine lv_bipush (v := (-13 : Int32)) hx hb dX0_lacks_47 (by decide) ?_
        refine lv_goto (tgt := 53) hx hb dX0_lacks_49 (by decide) ?_
        have hP9 := hP
        have hD9 := hD
        exact W.iret (v := (-13 : Int32)) hx hb hr (fun t ht hW => ⟨⟨(-13 : Int32), (), rfl, hw, by rw [ht]; exact hP9, hD9⟩, hS.F ht⟩) hS.2.2 dX0_lacks_53
  · replace hw := hw.2 c_3
    refine lv_bipush (v := (-12 : Int32)) hx hb dX0_lacks_28 (by decide) ?_
    have hP9 := hP
    have hD9 := hD
    exact W.iret (v := (-12 : Int32)) hx hb hr (fun t ht hW => ⟨⟨(-12 : Int32), (), rfl, hw, by rw [ht]; exact hP9, hD9⟩, hS.F ht⟩) hS.2.2 dX0_lacks_30
/-! BattleBench.lacks(IIII)I -/
def wp_X0_lacks_S (rn : Nat) (rw : Nat → Int32) (p1 : Int32) (p2 : Int32) (p3 : Int32) (p4 : Int32) (Q : Int32 → Prop) : Prop :=
  (vp_in p1 4 ∧ wp_X8_lane_S rn rw  (fun r_2 => (((r_2 = p2) → (((p3 < 0) → Q (-13 : Int32)) ∧ (¬ (p3 < 0) → wp_X8_size_S rn rw  (fun r_5 => (((p3 ≤ (r_5 - p4)) → Q (0 : Int32)) ∧ (¬ (p3 ≤ (r_5 - p4)) → Q (-13 : Int32))))))) ∧ (¬ (r_2 = p2) → Q (-12 : Int32)))))
set_option maxHeartbeats 4000000 in
theorem mt_X0_lacks_S (l : Launch) (G : GT) (h h_kinds h_now h_fault h_tape h_got h_failing h_past h_aside h_best h_tried h_kept h_keptPast h_sheets h_sheets_x h_sheets_x_r : Nat) (shf : Nat → Option Nat) (sz : Nat) (taped : Int32) (reads : Int32) (undoMany : Int32) (keptMany : Int32) (isKept : Int32) (rn : Nat) (rw : Nat → Int32) (p1 : Int32) (p2 : Int32) (p3 : Int32) (p4 : Int32)(hsh : shf p1.toNatClampNeg = some h_sheets_x) (Q : Int32 → Prop) (hw : wp_X0_lacks_S rn rw p1 p2 p3 p4 Q) : Met l yX0_lacks (ws_ yX0_lacks cX0_lacks 6 (some .int)) ({ frames := 1, cells := 0, slots := 0, locals := 22 } : Room) (va_Pc [.ref h, .int p1, .int p2, .int p3, .int p4] (fun U => U.heap.size = sz ∧ va_P G.1 gCl [oc h 0 [.ref h_kinds, .ref h_now, .ref h_fault, .ref h_tape, .int taped, .int reads, .ref h_got, .ref h_failing, .ref h_past, .int undoMany, .ref h_aside, .ref h_best, .ref h_tried, .ref h_kept, .ref h_keptPast, .int keptMany, .int isKept, .ref h_sheets], arf G h_sheets 7 4 shf, oc h_sheets_x 8 [.ref h_sheets_x_r], ah G h_sheets_x_r rn rw] U.heap ∧ gK G U ∧ va_D (fun _ => True) [oc h 0 [.ref h_kinds, .ref h_now, .ref h_fault, .ref h_tape, .int taped, .int reads, .ref h_got, .ref h_failing, .ref h_past, .int undoMany, .ref h_aside, .ref h_best, .ref h_tried, .ref h_kept, .ref h_keptPast, .int keptMany, .int isKept, .ref h_sheets], arf G h_sheets 7 4 shf, oc h_sheets_x 8 [.ref h_sheets_x_r], ah G h_sheets_x_r rn rw])) ((fun A => (va_Qi (fun (r : Int32) (u : Unit) => Q r ) (fun u t => va_P G.1 gCl [oc h 0 [.ref h_kinds, .ref h_now, .ref h_fault, .ref h_tape, .int taped, .int reads, .ref h_got, .ref h_failing, .ref h_past, .int undoMany, .ref h_aside, .ref h_best, .ref h_tried, .ref h_kept, .ref h_keptPast, .int keptMany, .int isKept, .ref h_sheets], arf G h_sheets 7 4 shf, oc h_sheets_x 8 [.ref h_sheets_x_r], ah G h_sheets_x_r rn rw] t.heap ∧ va_D A [oc h 0 [.ref h_kinds, .ref h_now, .ref h_fault, .ref h_tape, .int taped, .int reads, .ref h_got, .ref h_failing, .ref h_past, .int undoMany, .ref h_aside, .ref h_best, .ref h_tried, .ref h_kept, .ref h_keptPast, .int keptMany, .int isKept, .ref h_sheets], arf G h_sheets 7 4 shf, oc h_sheets_x 8 [.ref h_sheets_x_r], ah G h_sheets_x_r rn rw]) A)) (va_A [oc h 0 [.ref h_kinds, .ref h_now, .ref h_fault, .ref h_tape, .int taped, .int reads, .ref h_got, .ref h_failing, .ref h_past, .int undoMany, .ref h_aside, .ref h_best, .ref h_tried, .ref h_kept, .ref h_keptPast, .int keptMany, .int isKept, .ref h_sheets], arf G h_sheets 7 4 shf, oc h_sheets_x 8 [.ref h_sheets_x_r], ah G h_sheets_x_r rn rw] sz)) 0 0 (va_A [oc h 0 [.ref h_kinds, .ref h_now, .ref h_fault, .ref h_tape, .int taped, .int reads, .ref h_got, .ref h_failing, .ref h_past, .int undoMany, .ref h_aside, .ref h_best, .ref h_tried, .ref h_kept, .ref h_keptPast, .int keptMany, .int isKept, .ref h_sheets], arf G h_sheets 7 4 shf, oc h_sheets_x 8 [.ref h_sheets_x_r], ah G h_sheets_x_r rn rw] sz) := by
  refine Met.ofW (cc := cX0_lacks) (maxL := 6) (ret := (some .int)) (by decide) rfl ?_
  intro p e s m args below meth c s₁ B hml hv
  obtain ⟨rfl, hsz, hP, hK, hD0⟩ := hv
  have hx := B.exec
  have hb := B.bytes
  have hr := B.returns
  have hts := atoms_spec (ws := (ws_ yX0_lacks cX0_lacks 6 (some .int))) B.pre
  have hts : ∀ w ∈ lw_all, w.before _ s = true := fun w h => hts w (List.mem_cons_of_mem _ h)
  have hown : s.vm.findClass RX0 = some m.cls := findClass_of_methodNamed B.named
  have hlocks := B.notSynchronized
  subst hsz
  have hD := hD0.self (sz := s.heap.size)
  generalize hAe : va_A [oc h 0 [.ref h_kinds, .ref h_now, .ref h_fault, .ref h_tape, .int taped, .int reads, .ref h_got, .ref h_failing, .ref h_past, .int undoMany, .ref h_aside, .ref h_best, .ref h_tried, .ref h_kept, .ref h_keptPast, .int keptMany, .int isKept, .ref h_sheets], arf G h_sheets 7 4 shf, oc h_sheets_x 8 [.ref h_sheets_x_r], ah G h_sheets_x_r rn rw] s.heap.size = A at hD ⊢
  have hA : ∀ q : Nat, s.heap.size ≤ q → A q := fun q h => by rw [← hAe]; exact Or.inr h
  have hS : va_S A s.heap s.heap [] := va_S.rf
  have C : Cx p s m meth c cX0_lacks 6 (some .int) RX0 ([.ref h, .int p1, .int p2, .int p3, .int p4] : List Value).toArray G A := ⟨hx, hb, hr, hlocks, hml, hown, hts, hK, hA⟩
  have hl := lv_entry ([.ref h, .int p1, .int p2, .int p3, .int p4]) (n := 6) (Nat.le_of_ble_eq_true rfl)
  rw [lg_entry_eq]
  generalize (lg_sl ([.ref h, .int p1, .int p2, .int p3, .int p4]) ++ List.replicate (6 - (lg_sl ([.ref h, .int p1, .int p2, .int p3, .int p4])).length) Slot.unset).toArray = ls at hl ⊢
  have hl : lv_has ls 6 [(0, .ref h), (1, .int p1), (2, .int p2), (3, .int p3), (4, .int p4)] := hl
  unfold wp_X0_lacks_S at hw
  refine lv_aload_n hx hb dX0_lacks_0 rfl (lv_at hl 0 rfl) ?_
  refine va_get (D := G.1) (ci := 0) (v := .ref h_sheets) (C := RX0) (T := TX0) (N := 18) hx hb hts in_X0 hown hK.1 hP 0 rfl rfl 17 (by decide) (hts _ q273) (fun _ h9 => h9) rfl dX0_lacks_1 ?_
  refine lv_iload_n hx hb dX0_lacks_4 rfl (lv_at hl 1 rfl) ?_
  obtain ⟨i_1, hw⟩ := hw
  refine z_aaldS hx hb hK.1 hP 1 7 rfl rfl i_1 dX0_lacks_5 hsh ?_
  refine lv_astore (lv' := [(5, .ref h_sheets_x), (0, .ref h), (1, .int p1), (2, .int p2), (3, .int p3), (4, .int p4)]) hx hb dX0_lacks_6 hl (by decide) rfl (fun ls hl => ?_)
  refine lv_aload hx hb dX0_lacks_8 (lv_at hl 0 rfl) ?_
  refine va_getN (D := G.1) (ci := 8) (v := .ref h_sheets_x_r) (C := RX8) (T := TX8) (N := 1) hx hb hts in_X8 hown hK.1 hP 2 rfl rfl 0 (by decide) (hK.n q251 rfl) (fun _ h9 => h9) rfl dX0_lacks_10 ?_
  refine lv_ifnonnull (tgt := 19) hx hb dX0_lacks_13 (by decide) ?_
  refine lv_aload hx hb dX0_lacks_19 (lv_at hl 0 rfl) ?_
  have hPc := hP.sub (ws' := [oc h_sheets_x 8 [.ref h_sheets_x_r], ah G h_sheets_x_r rn rw]) [2, 3] rfl
  have hDc := hD.sub (ws' := [oc h_sheets_x 8 [.ref h_sheets_x_r], ah G h_sheets_x_r rn rw]) [2, 3] (by decide) rfl
  have hFc := va_free (wc := [oc h_sheets_x 8 [.ref h_sheets_x_r], ah G h_sheets_x_r rn rw]) hD hS hA [2, 3] rfl
  refine va_calli (va_runV (As := []) (rest := []) ⟨hx, hb, hml, hown, hts⟩ (mt_X8_lane_S l G h_sheets_x h_sheets_x_r s.heap.size rn rw  _ hw) (cwV 0 hts (lw_V q657 q658 q659 q64 q660) rfl rfl rfl (by decide +kernel) ⟨Nat.le_of_ble_eq_true rfl, Nat.le_of_ble_eq_true rfl⟩) ⟨fun a U g mk q => by obtain ⟨q0, q1, qP, qK, qD⟩ := q; exact ⟨q0, q1, qP, qK.call, qD⟩, va_recv hK.1 hP (ci := 8) (q0 := 2) rfl rfl, fun U hU hW => ⟨rfl, by rw [hU], by rw [hU]; exact hPc, hK.warm hW, hDc.weaken (fun _ _ _ _ => trivial)⟩⟩ rfl rfl hl.1 rfl (lv_room (Nat.le_of_ble_eq_true rfl)) dX0_lacks_21 ⟨Nat.le_of_ble_eq_true rfl, Nat.le_of_ble_eq_true rfl⟩) hS (fun q _ h => hFc q h) hFc (fun r_2 _ t H1 locs ht hvm hw hB hz1 hk1 hS => ?_)
  obtain ⟨hP1, hD1⟩ := hB
  rw [ht] at hP1
  obtain ⟨hP, hD⟩ := va_join (wr := [oc h 0 [.ref h_kinds, .ref h_now, .ref h_fault, .ref h_tape, .int taped, .int reads, .ref h_got, .ref h_failing, .ref h_past, .int undoMany, .ref h_aside, .ref h_best, .ref h_tried, .ref h_kept, .ref h_keptPast, .int keptMany, .int isKept, .ref h_sheets], arf G h_sheets 7 4 shf]) (w1 := [oc h_sheets_x 8 [.ref h_sheets_x_r], ah G h_sheets_x_r rn rw]) hP hD [2, 3] [0, 1] rfl rfl (by decide) (by decide) hk1 hFc hP1 hD1
  clear hPc hDc hFc hP1 hD1 hz1 hk1 hvm
  generalize H1 = H at hP hS ⊢
  have hP : va_P G.1 gCl [oc h 0 [.ref h_kinds, .ref h_now, .ref h_fault, .ref h_tape, .int taped, .int reads, .ref h_got, .ref h_failing, .ref h_past, .int undoMany, .ref h_aside, .ref h_best, .ref h_tried, .ref h_kept, .ref h_keptPast, .int keptMany, .int isKept, .ref h_sheets], arf G h_sheets 7 4 shf, oc h_sheets_x 8 [.ref h_sheets_x_r], ah G h_sheets_x_r rn rw] H := hP
  have hD : va_D A [oc h 0 [.ref h_kinds, .ref h_now, .ref h_fault, .ref h_tape, .int taped, .int reads, .ref h_got, .ref h_failing, .ref h_past, .int undoMany, .ref h_aside, .ref h_best, .ref h_tried, .ref h_kept, .ref h_keptPast, .int keptMany, .int isKept, .ref h_sheets], arf G h_sheets 7 4 shf, oc h_sheets_x 8 [.ref h_sheets_x_r], ah G h_sheets_x_r rn rw] := hD
  refine lv_iload_n hx hb dX0_lacks_24 rfl (lv_at hl 3 rfl) ?_
  refine lv_icmp_eq (tgt := 31) hx hb dX0_lacks_25 (by decide) (fun c_3 => ?_) (fun c_3 => ?_)
  · replace hw := hw.1 c_3
    refine lv_iload_n hx hb dX0_lacks_31 rfl (lv_at hl 4 rfl) ?_
    refine lv_if_lt (tgt := 47) hx hb dX0_lacks_32 (by decide) (fun c_4 => ?_) (fun c_4 => ?_)
    · replace hw := hw.1 c_4
      refine lv_bipush (v := (-13 : Int32)) hx hb dX0_lacks_47 (by decide) ?_
      refine lv_goto (tgt := 53) hx hb dX0_lacks_49 (by decide) ?_
      have hP9 := hP
      have hD9 := hD
      exact W.iret (v := (-13 : Int32)) hx hb hr (fun t ht hW => ⟨⟨(-13 : Int32), (), rfl, hw, by rw [ht]; exact hP9, hD9⟩, hS.F ht⟩) hS.2.2 dX0_lacks_53
    · replace hw := hw.2 c_4
      refine lv_iload_n hx hb dX0_lacks_35 rfl (lv_at hl 4 rfl) ?_
      refine lv_aload hx hb dX0_lacks_36 (lv_at hl 0 rfl) ?_
      have hPc := hP.sub (ws' := [oc h_sheets_x 8 [.ref h_sheets_x_r], ah G h_sheets_x_r rn rw]) [2, 3] rfl
      have hDc := hD.sub (ws' := [oc h_sheets_x 8 [.ref h_sheets_x_r], ah G h_sheets_x_r rn rw]) [2, 3] (by decide) rfl
      have hFc := va_free (wc := [oc h_sheets_x 8 [.ref h_sheets_x_r], ah G h_sheets_x_r rn rw]) hD hS hA [2, 3] rfl
      refine va_calli (va_runV (As := []) (rest := [.int p3]) ⟨hx, hb, hml, hown, hts⟩ (mt_X8_size_S l G h_sheets_x h_sheets_x_r H.size rn rw  _ hw) (cwV 0 hts (lw_V q664 q665 q666 q64 q667) rfl rfl rfl (by decide +kernel) ⟨Nat.le_of_ble_eq_true rfl, Nat.le_of_ble_eq_true rfl⟩) ⟨fun a U g mk q => by obtain ⟨q0, q1, qP, qK, qD⟩ := q; exact ⟨q0, q1, qP, qK.call, qD⟩, va_recv hK.1 hP (ci := 8) (q0 := 2) rfl rfl, fun U hU hW => ⟨rfl, by rw [hU], by rw [hU]; exact hPc, hK.warm hW, hDc.weaken (fun _ _ _ _ => trivial)⟩⟩ rfl rfl hl.1 rfl (lv_room (Nat.le_of_ble_eq_true rfl)) dX0_lacks_38 ⟨Nat.le_of_ble_eq_true rfl, Nat.le_of_ble_eq_true rfl⟩) hS (fun q _ h => hFc q h) hFc (fun r_5 _ t H1 locs ht hvm hw hB hz1 hk1 hS => ?_)
      obtain ⟨hP1, hD1⟩ := hB
      rw [ht] at hP1
      obtain ⟨hP, hD⟩ := va_join (wr := [oc h 0 [.ref h_kinds, .ref h_now, .ref h_fault, .ref h_tape, .int taped, .int reads, .ref h_got, .ref h_failing, .ref h_past, .int undoMany, .ref h_aside, .ref h_best, .ref h_tried, .ref h_kept, .ref h_keptPast, .int keptMany, .int isKept, .ref h_sheets], arf G h_sheets 7 4 shf]) (w1 := [oc h_sheets_x 8 [.ref h_sheets_x_r], ah G h_sheets_x_r rn rw]) hP hD [2, 3] [0, 1] rfl rfl (by decide) (by decide) hk1 hFc hP1 hD1
      clear hPc hDc hFc hP1 hD1 hz1 hk1 hvm
      generalize H1 = H at hP hS ⊢
      have hP : va_P G.1 gCl [oc h 0 [.ref h_kinds, .ref h_now, .ref h_fault, .ref h_tape, .int taped, .int reads, .ref h_got, .ref h_failing, .ref h_past, .int undoMany, .ref h_aside, .ref h_best, .ref h_tried, .ref h_kept, .ref h_keptPast, .int keptMany, .int isKept, .ref h_sheets], arf G h_sheets 7 4 shf, oc h_sheets_x 8 [.ref h_sheets_x_r], ah G h_sheets_x_r rn rw] H := hP
      have hD : va_D A [oc h 0 [.ref h_kinds, .ref h_now, .ref h_fault, .ref h_tape, .int taped, .int reads, .ref h_got, .ref h_failing, .ref h_past, .int undoMany, .ref h_aside, .ref h_best, .ref h_tried, .ref h_kept, .ref h_keptPast, .int keptMany, .int isKept, .ref h_sheets], arf G h_sheets 7 4 shf, oc h_sheets_x 8 [.ref h_sheets_x_r], ah G h_sheets_x_r rn rw] := hD
      refine lv_iload hx hb dX0_lacks_41 (lv_at hl 5 rfl) ?_
      refine lv_isub hx hb dX0_lacks_43 ?_
      refine lv_icmp_le (tgt := 52) hx hb dX0_lacks_44 (by decide) (fun c_6 => ?_) (fun c_6 => ?_)
      · replace hw := hw.1 c_6
        refine lv_iconst (v := (0 : Int32)) hx hb dX0_lacks_52 (by decide) ?_
        have hP9 := hP
        have hD9 := hD
        exact W.iret (v := (0 : Int32)) hx hb hr (fun t ht hW => ⟨⟨(0 : Int32), (), rfl, hw, by rw [ht]; exact hP9, hD9⟩, hS.F ht⟩) hS.2.2 dX0_lacks_53
      · replace hw := hw.2 c_6
        refine lv_bipush (v := (-13 : Int32)) hx hb dX0_lacks_47 (by decide) ?_
        refine lv_goto (tgt := 53) hx hb dX0_lacks_49 (by decide) ?_
        have hP9 := hP
        have hD9 := hD
        exact W.iret (v := (-13 : Int32)) hx hb hr (fun t ht hW => ⟨⟨(-13 : Int32), (), rfl, hw, by rw [ht]; exact hP9, hD9⟩, hS.F ht⟩) hS.2.2 dX0_lacks_53
  · replace hw := hw.2 c_3
    refine lv_bipush (v := (-12 : Int32)) hx hb dX0_lacks_28 (by decide) ?_
    have hP9 := hP
    have hD9 := hD
    exact W.iret (v := (-12 : Int32)) hx hb hr (fun t ht hW => ⟨⟨(-12 : Int32), (), rfl, hw, by rw [ht]; exact hP9, hD9⟩, hS.F ht⟩) hS.2.2 dX0_lacks_30
/-! BattleBench.lacks(IIII)I -/
def wp_X0_lacks_I (rn : Nat) (rw : Nat → Int32) (p1 : Int32) (p2 : Int32) (p3 : Int32) (p4 : Int32) (Q : Int32 → Prop) : Prop :=
  (vp_in p1 4 ∧ wp_X8_lane_I rn rw  (fun r_2 => (((r_2 = p2) → (((p3 < 0) → Q (-13 : Int32)) ∧ (¬ (p3 < 0) → wp_X8_size_I rn rw  (fun r_5 => (((p3 ≤ (r_5 - p4)) → Q (0 : Int32)) ∧ (¬ (p3 ≤ (r_5 - p4)) → Q (-13 : Int32))))))) ∧ (¬ (r_2 = p2) → Q (-12 : Int32)))))
set_option maxHeartbeats 4000000 in
theorem mt_X0_lacks_I (l : Launch) (G : GT) (h h_kinds h_now h_fault h_tape h_got h_failing h_past h_aside h_best h_tried h_kept h_keptPast h_sheets h_sheets_x h_sheets_x_r : Nat) (shf : Nat → Option Nat) (sz : Nat) (taped : Int32) (reads : Int32) (undoMany : Int32) (keptMany : Int32) (isKept : Int32) (rn : Nat) (rw : Nat → Int32) (p1 : Int32) (p2 : Int32) (p3 : Int32) (p4 : Int32)(hsh : shf p1.toNatClampNeg = some h_sheets_x) (Q : Int32 → Prop) (hw : wp_X0_lacks_I rn rw p1 p2 p3 p4 Q) : Met l yX0_lacks (ws_ yX0_lacks cX0_lacks 6 (some .int)) ({ frames := 1, cells := 0, slots := 0, locals := 22 } : Room) (va_Pc [.ref h, .int p1, .int p2, .int p3, .int p4] (fun U => U.heap.size = sz ∧ va_P G.1 gCl [oc h 0 [.ref h_kinds, .ref h_now, .ref h_fault, .ref h_tape, .int taped, .int reads, .ref h_got, .ref h_failing, .ref h_past, .int undoMany, .ref h_aside, .ref h_best, .ref h_tried, .ref h_kept, .ref h_keptPast, .int keptMany, .int isKept, .ref h_sheets], arf G h_sheets 7 4 shf, oc h_sheets_x 8 [.ref h_sheets_x_r], ai G h_sheets_x_r rn rw] U.heap ∧ gK G U ∧ va_D (fun _ => True) [oc h 0 [.ref h_kinds, .ref h_now, .ref h_fault, .ref h_tape, .int taped, .int reads, .ref h_got, .ref h_failing, .ref h_past, .int undoMany, .ref h_aside, .ref h_best, .ref h_tried, .ref h_kept, .ref h_keptPast, .int keptMany, .int isKept, .ref h_sheets], arf G h_sheets 7 4 shf, oc h_sheets_x 8 [.ref h_sheets_x_r], ai G h_sheets_x_r rn rw])) ((fun A => (va_Qi (fun (r : Int32) (u : Unit) => Q r ) (fun u t => va_P G.1 gCl [oc h 0 [.ref h_kinds, .ref h_now, .ref h_fault, .ref h_tape, .int taped, .int reads, .ref h_got, .ref h_failing, .ref h_past, .int undoMany, .ref h_aside, .ref h_best, .ref h_tried, .ref h_kept, .ref h_keptPast, .int keptMany, .int isKept, .ref h_sheets], arf G h_sheets 7 4 shf, oc h_sheets_x 8 [.ref h_sheets_x_r], ai G h_sheets_x_r rn rw] t.heap ∧ va_D A [oc h 0 [.ref h_kinds, .ref h_now, .ref h_fault, .ref h_tape, .int taped, .int reads, .ref h_got, .ref h_failing, .ref h_past, .int undoMany, .ref h_aside, .ref h_best, .ref h_tried, .ref h_kept, .ref h_keptPast, .int keptMany, .int isKept, .ref h_sheets], arf G h_sheets 7 4 shf, oc h_sheets_x 8 [.ref h_sheets_x_r], ai G h_sheets_x_r rn rw]) A)) (va_A [oc h 0 [.ref h_kinds, .ref h_now, .ref h_fault, .ref h_tape, .int taped, .int reads, .ref h_got, .ref h_failing, .ref h_past, .int undoMany, .ref h_aside, .ref h_best, .ref h_tried, .ref h_kept, .ref h_keptPast, .int keptMany, .int isKept, .ref h_sheets], arf G h_sheets 7 4 shf, oc h_sheets_x 8 [.ref h_sheets_x_r], ai G h_sheets_x_r rn rw] sz)) 0 0 (va_A [oc h 0 [.ref h_kinds, .ref h_now, .ref h_fault, .ref h_tape, .int taped, .int reads, .ref h_got, .ref h_failing, .ref h_past, .int undoMany, .ref h_aside, .ref h_best, .ref h_tried, .ref h_kept, .ref h_keptPast, .int keptMany, .int isKept, .ref h_sheets], arf G h_sheets 7 4 shf, oc h_sheets_x 8 [.ref h_sheets_x_r], ai G h_sheets_x_r rn rw] sz) := by
  refine Met.ofW (cc := cX0_lacks) (maxL := 6) (ret := (some .int)) (by decide) rfl ?_
  intro p e s m args below meth c s₁ B hml hv
  obtain ⟨rfl, hsz, hP, hK, hD0⟩ := hv
  have hx := B.exec
  have hb := B.bytes
  have hr := B.returns
  have hts := atoms_spec (ws := (ws_ yX0_lacks cX0_lacks 6 (some .int))) B.pre
  have hts : ∀ w ∈ lw_all, w.before _ s = true := fun w h => hts w (List.mem_cons_of_mem _ h)
  have hown : s.vm.findClass RX0 = some m.cls := findClass_of_methodNamed B.named
  have hlocks := B.notSynchronized
  subst hsz
  have hD := hD0.self (sz := s.heap.size)
  generalize hAe : va_A [oc h 0 [.ref h_kinds, .ref h_now, .ref h_fault, .ref h_tape, .int taped, .int reads, .ref h_got, .ref h_failing, .ref h_past, .int undoMany, .ref h_aside, .ref h_best, .ref h_tried, .ref h_kept, .ref h_keptPast, .int keptMany, .int isKept, .ref h_sheets], arf G h_sheets 7 4 shf, oc h_sheets_x 8 [.ref h_sheets_x_r], ai G h_sheets_x_r rn rw] s.heap.size = A at hD ⊢
  have hA : ∀ q : Nat, s.heap.size ≤ q → A q := fun q h => by rw [← hAe]; exact Or.inr h
  have hS : va_S A s.heap s.heap [] := va_S.rf
  have C : Cx p s m meth c cX0_lacks 6 (some .int) RX0 ([.ref h, .int p1, .int p2, .int p3, .int p4] : List Value).toArray G A := ⟨hx, hb, hr, hlocks, hml, hown, hts, hK, hA⟩
  have hl := lv_entry ([.ref h, .int p1, .int p2, .int p3, .int p4]) (n := 6) (Nat.le_of_ble_eq_true rfl)
  rw [lg_entry_eq]
  generalize (lg_sl ([.ref h, .int p1, .int p2, .int p3, .int p4]) ++ List.replicate (6 - (lg_sl ([.ref h, .int p1, .int p2, .int p3, .int p4])).length) Slot.unset).toArray = ls at hl ⊢
  have hl : lv_has ls 6 [(0, .ref h), (1, .int p1), (2, .int p2), (3, .int p3), (4, .int p4)] := hl
  unfold wp_X0_lacks_I at hw
  refine lv_aload_n hx hb dX0_lacks_0 rfl (lv_at hl 0 rfl) ?_
  refine va_get (D := G.1) (ci := 0) (v := .ref h_sheets) (C := RX0) (T := TX0) (N := 18) hx hb hts in_X0 hown hK.1 hP 0 rfl rfl 17 (by decide) (hts _ q273) (fun _ h9 => h9) rfl dX0_lacks_1 ?_
  refine lv_iload_n hx hb dX0_lacks_4 rfl (lv_at hl 1 rfl) ?_
  obtain ⟨i_1, hw⟩ := hw
  refine z_aaldS hx hb hK.1 hP 1 7 rfl rfl i_1 dX0_lacks_5 hsh ?_
  refine lv_astore (lv' := [(5, .ref h_sheets_x), (0, .ref h), (1, .int p1), (2, .int p2), (3, .int p3), (4, .int p4)]) hx hb dX0_lacks_6 hl (by decide) rfl (fun ls hl => ?_)
  refine lv_aload hx hb dX0_lacks_8 (lv_at hl 0 rfl) ?_
  refine va_getN (D := G.1) (ci := 8) (v := .ref h_sheets_x_r) (C := RX8) (T := TX8) (N := 1) hx hb hts in_X8 hown hK.1 hP 2 rfl rfl 0 (by decide) (hK.n q251 rfl) (fun _ h9 => h9) rfl dX0_lacks_10 ?_
  refine lv_ifnonnull (tgt := 19) hx hb dX0_lacks_13 (by decide) ?_
  refine lv_aload hx hb dX0_lacks_19 (lv_at hl 0 rfl) ?_
  have hPc := hP.sub (ws' := [oc h_sheets_x 8 [.ref h_sheets_x_r], ai G h_sheets_x_r rn rw]) [2, 3] rfl
  have hDc := hD.sub (ws' := [oc h_sheets_x 8 [.ref h_sheets_x_r], ai G h_sheets_x_r rn rw]) [2, 3] (by decide) rfl
  have hFc := va_free (wc := [oc h_sheets_x 8 [.ref h_sheets_x_r], ai G h_sheets_x_r rn rw]) hD hS hA [2, 3] rfl
  refine va_calli (va_runV (As := []) (rest := []) ⟨hx, hb, hml, hown, hts⟩ (mt_X8_lane_I l G h_sheets_x h_sheets_x_r s.heap.size rn rw  _ hw) (cwV 0 hts (lw_V q657 q658 q659 q64 q660) rfl rfl rfl (by decide +kernel) ⟨Nat.le_of_ble_eq_true rfl, Nat.le_of_ble_eq_true rfl⟩) ⟨fun a U g mk q => by obtain ⟨q0, q1, qP, qK, qD⟩ := q; exact ⟨q0, q1, qP, qK.call, qD⟩, va_recv hK.1 hP (ci := 8) (q0 := 2) rfl rfl, fun U hU hW => ⟨rfl, by rw [hU], by rw [hU]; exact hPc, hK.warm hW, hDc.weaken (fun _ _ _ _ => trivial)⟩⟩ rfl rfl hl.1 rfl (lv_room (Nat.le_of_ble_eq_true rfl)) dX0_lacks_21 ⟨Nat.le_of_ble_eq_true rfl, Nat.le_of_ble_eq_true rfl⟩) hS (fun q _ h => hFc q h) hFc (fun r_2 _ t H1 locs ht hvm hw hB hz1 hk1 hS => ?_)
  obtain ⟨hP1, hD1⟩ := hB
  rw [ht] at hP1
  obtain ⟨hP, hD⟩ := va_join (wr := [oc h 0 [.ref h_kinds, .ref h_now, .ref h_fault, .ref h_tape, .int taped, .int reads, .ref h_got, .ref h_failing, .ref h_past, .int undoMany, .ref h_aside, .ref h_best, .ref h_tried, .ref h_kept, .ref h_keptPast, .int keptMany, .int isKept, .ref h_sheets], arf G h_sheets 7 4 shf]) (w1 := [oc h_sheets_x 8 [.ref h_sheets_x_r], ai G h_sheets_x_r rn rw]) hP hD [2, 3] [0, 1] rfl rfl (by decide) (by decide) hk1 hFc hP1 hD1
  clear hPc hDc hFc hP1 hD1 hz1 hk1 hvm
  generalize H1 = H at hP hS ⊢
  have hP : va_P G.1 gCl [oc h 0 [.ref h_kinds, .ref h_now, .ref h_fault, .ref h_tape, .int taped, .int reads, .ref h_got, .ref h_failing, .ref h_past, .int undoMany, .ref h_aside, .ref h_best, .ref h_tried, .ref h_kept, .ref h_keptPast, .int keptMany, .int isKept, .ref h_sheets], arf G h_sheets 7 4 shf, oc h_sheets_x 8 [.ref h_sheets_x_r], ai G h_sheets_x_r rn rw] H := hP
  have hD : va_D A [oc h 0 [.ref h_kinds, .ref h_now, .ref h_fault, .ref h_tape, .int taped, .int reads, .ref h_got, .ref h_failing, .ref h_past, .int undoMany, .ref h_aside, .ref h_best, .ref h_tried, .ref h_kept, .ref h_keptPast, .int keptMany, .int isKept, .ref h_sheets], arf G h_sheets 7 4 shf, oc h_sheets_x 8 [.ref h_sheets_x_r], ai G h_sheets_x_r rn rw] := hD
  refine lv_iload_n hx hb dX0_lacks_24 rfl (lv_at hl 3 rfl) ?_
  refine lv_icmp_eq (tgt := 31) hx hb dX0_lacks_25 (by decide) (fun c_3 => ?_) (fun c_3 => ?_)
  · replace hw := hw.1 c_3
    refine lv_iload_n hx hb dX0_lacks_31 rfl (lv_at hl 4 rfl) ?_
    refine lv_if_lt (tgt := 47) hx hb dX0_lacks_32 (by decide) (fun c_4 => ?_) (fun c_4 => ?_)
    · replace hw := hw.1 c_4
      refine lv_bipush (v := (-13 : Int32)) hx hb dX0_lacks_47 (by decide) ?_
      refine lv_goto (tgt := 53) hx hb dX0_lacks_49 (by decide) ?_
      have hP9 := hP
      have hD9 := hD
      exact W.iret (v := (-13 : Int32)) hx hb hr (fun t ht hW => ⟨⟨(-13 : Int32), (), rfl, hw, by rw [ht]; exact hP9, hD9⟩, hS.F ht⟩) hS.2.2 dX0_lacks_53
    · replace hw := hw.2 c_4
      refine lv_iload_n hx hb dX0_lacks_35 rfl (lv_at hl 4 rfl) ?_
      refine lv_aload hx hb dX0_lacks_36 (lv_at hl 0 rfl) ?_
      have hPc := hP.sub (ws' := [oc h_sheets_x 8 [.ref h_sheets_x_r], ai G h_sheets_x_r rn rw]) [2, 3] rfl
      have hDc := hD.sub (ws' := [oc h_sheets_x 8 [.ref h_sheets_x_r], ai G h_sheets_x_r rn rw]) [2, 3] (by decide) rfl
      have hFc := va_free (wc := [oc h_sheets_x 8 [.ref h_sheets_x_r], ai G h_sheets_x_r rn rw]) hD hS hA [2, 3] rfl
      refine va_calli (va_runV (As := []) (rest := [.int p3]) ⟨hx, hb, hml, hown, hts⟩ (mt_X8_size_I l G h_sheets_x h_sheets_x_r H.size rn rw  _ hw) (cwV 0 hts (lw_V q664 q665 q666 q64 q667) rfl rfl rfl (by decide +kernel) ⟨Nat.le_of_ble_eq_true rfl, Nat.le_of_ble_eq_true rfl⟩) ⟨fun a U g mk q => by obtain ⟨q0, q1, qP, qK, qD⟩ := q; exact ⟨q0, q1, qP, qK.call, qD⟩, va_recv hK.1 hP (ci := 8) (q0 := 2) rfl rfl, fun U hU hW => ⟨rfl, by rw [hU], by rw [hU]; exact hPc, hK.warm hW, hDc.weaken (fun _ _ _ _ => trivial)⟩⟩ rfl rfl hl.1 rfl (lv_room (Nat.le_of_ble_eq_true rfl)) dX0_lacks_38 ⟨Nat.le_of_ble_eq_true rfl, Nat.le_of_ble_eq_true rfl⟩) hS (fun q _ h => hFc q h) hFc (fun r_5 _ t H1 locs ht hvm hw hB hz1 hk1 hS => ?_)
      obtain ⟨hP1, hD1⟩ := hB
      rw [ht] at hP1
      obtain ⟨hP, hD⟩ := va_join (wr := [oc h 0 [.ref h_kinds, .ref h_now, .ref h_fault, .ref h_tape, .int taped, .int reads, .ref h_got, .ref h_failing, .ref h_past, .int undoMany, .ref h_aside, .ref h_best, .ref h_tried, .ref h_kept, .ref h_keptPast, .int keptMany, .int isKept, .ref h_sheets], arf G h_sheets 7 4 shf]) (w1 := [oc h_sheets_x 8 [.ref h_sheets_x_r], ai G h_sheets_x_r rn rw]) hP hD [2, 3] [0, 1] rfl rfl (by decide) (by decide) hk1 hFc hP1 hD1
      clear hPc hDc hFc hP1 hD1 hz1 hk1 hvm
      generalize H1 = H at hP hS ⊢
      have hP : va_P G.1 gCl [oc h 0 [.ref h_kinds, .ref h_now, .ref h_fault, .ref h_tape, .int taped, .int reads, .ref h_got, .ref h_failing, .ref h_past, .int undoMany, .ref h_aside, .ref h_best, .ref h_tried, .ref h_kept, .ref h_keptPast, .int keptMany, .int isKept, .ref h_sheets], arf G h_sheets 7 4 shf, oc h_sheets_x 8 [.ref h_sheets_x_r], ai G h_sheets_x_r rn rw] H := hP
      have hD : va_D A [oc h 0 [.ref h_kinds, .ref h_now, .ref h_fault, .ref h_tape, .int taped, .int reads, .ref h_got, .ref h_failing, .ref h_past, .int undoMany, .ref h_aside, .ref h_best, .ref h_tried, .ref h_kept, .ref h_keptPast, .int keptMany, .int isKept, .ref h_sheets], arf G h_sheets 7 4 shf, oc h_sheets_x 8 [.ref h_sheets_x_r], ai G h_sheets_x_r rn rw] := hD
      refine lv_iload hx hb dX0_lacks_41 (lv_at hl 5 rfl) ?_
      refine lv_isub hx hb dX0_lacks_43 ?_
      refine lv_icmp_le (tgt := 52) hx hb dX0_lacks_44 (by decide) (fun c_6 => ?_) (fun c_6 => ?_)
      · replace hw := hw.1 c_6
        refine lv_iconst (v := (0 : Int32)) hx hb dX0_lacks_52 (by decide) ?_
        have hP9 := hP
        have hD9 := hD
        exact W.iret (v := (0 : Int32)) hx hb hr (fun t ht hW => ⟨⟨(0 : Int32), (), rfl, hw, by rw [ht]; exact hP9, hD9⟩, hS.F ht⟩) hS.2.2 dX0_lacks_53
      · replace hw := hw.2 c_6
        refine lv_bipush (v := (-13 : Int32)) hx hb dX0_lacks_47 (by decide) ?_
        refine lv_goto (tgt := 53) hx hb dX0_lacks_49 (by decide) ?_
        have hP9 := hP
        have hD9 := hD
        exact W.iret (v := (-13 : Int32)) hx hb hr (fun t ht hW => ⟨⟨(-13 : Int32), (), rfl, hw, by rw [ht]; exact hP9, hD9⟩, hS.F ht⟩) hS.2.2 dX0_lacks_53
  · replace hw := hw.2 c_3
    refine lv_bipush (v := (-12 : Int32)) hx hb dX0_lacks_28 (by decide) ?_
    have hP9 := hP
    have hD9 := hD
    exact W.iret (v := (-12 : Int32)) hx hb hr (fun t ht hW => ⟨⟨(-12 : Int32), (), rfl, hw, by rw [ht]; exact hP9, hD9⟩, hS.F ht⟩) hS.2.2 dX0_lacks_30
/-! BattleBench.lacks(IIII)I -/
def wp_X0_lacks_J (rn : Nat) (rw : Nat → Int64) (p1 : Int32) (p2 : Int32) (p3 : Int32) (p4 : Int32) (Q : Int32 → Prop) : Prop :=
  (vp_in p1 4 ∧ wp_X8_lane_J rn rw  (fun r_2 => (((r_2 = p2) → (((p3 < 0) → Q (-13 : Int32)) ∧ (¬ (p3 < 0) → wp_X8_size_J rn rw  (fun r_5 => (((p3 ≤ (r_5 - p4)) → Q (0 : Int32)) ∧ (¬ (p3 ≤ (r_5 - p4)) → Q (-13 : Int32))))))) ∧ (¬ (r_2 = p2) → Q (-12 : Int32)))))
set_option maxHeartbeats 4000000 in
theorem mt_X0_lacks_J (l : Launch) (G : GT) (h h_kinds h_now h_fault h_tape h_got h_failing h_past h_aside h_best h_tried h_kept h_keptPast h_sheets h_sheets_x h_sheets_x_r : Nat) (shf : Nat → Option Nat) (sz : Nat) (taped : Int32) (reads : Int32) (undoMany : Int32) (keptMany : Int32) (isKept : Int32) (rn : Nat) (rw : Nat → Int64) (p1 : Int32) (p2 : Int32) (p3 : Int32) (p4 : Int32)(hsh : shf p1.toNatClampNeg = some h_sheets_x) (Q : Int32 → Prop) (hw : wp_X0_lacks_J rn rw p1 p2 p3 p4 Q) : Met l yX0_lacks (ws_ yX0_lacks cX0_lacks 6 (some .int)) ({ frames := 1, cells := 0, slots := 0, locals := 22 } : Room) (va_Pc [.ref h, .int p1, .int p2, .int p3, .int p4] (fun U => U.heap.size = sz ∧ va_P G.1 gCl [oc h 0 [.ref h_kinds, .ref h_now, .ref h_fault, .ref h_tape, .int taped, .int reads, .ref h_got, .ref h_failing, .ref h_past, .int undoMany, .ref h_aside, .ref h_best, .ref h_tried, .ref h_kept, .ref h_keptPast, .int keptMany, .int isKept, .ref h_sheets], arf G h_sheets 7 4 shf, oc h_sheets_x 8 [.ref h_sheets_x_r], al G h_sheets_x_r rn rw] U.heap ∧ gK G U ∧ va_D (fun _ => True) [oc h 0 [.ref h_kinds, .ref h_now, .ref h_fault, .ref h_tape, .int taped, .int reads, .ref h_got, .ref h_failing, .ref h_past, .int undoMany, .ref h_aside, .ref h_best, .ref h_tried, .ref h_kept, .ref h_keptPast, .int keptMany, .int isKept, .ref h_sheets], arf G h_sheets 7 4 shf, oc h_sheets_x 8 [.ref h_sheets_x_r], al G h_sheets_x_r rn rw])) ((fun A => (va_Qi (fun (r : Int32) (u : Unit) => Q r ) (fun u t => va_P G.1 gCl [oc h 0 [.ref h_kinds, .ref h_now, .ref h_fault, .ref h_tape, .int taped, .int reads, .ref h_got, .ref h_failing, .ref h_past, .int undoMany, .ref h_aside, .ref h_best, .ref h_tried, .ref h_kept, .ref h_keptPast, .int keptMany, .int isKept, .ref h_sheets], arf G h_sheets 7 4 shf, oc h_sheets_x 8 [.ref h_sheets_x_r], al G h_sheets_x_r rn rw] t.heap ∧ va_D A [oc h 0 [.ref h_kinds, .ref h_now, .ref h_fault, .ref h_tape, .int taped, .int reads, .ref h_got, .ref h_failing, .ref h_past, .int undoMany, .ref h_aside, .ref h_best, .ref h_tried, .ref h_kept, .ref h_keptPast, .int keptMany, .int isKept, .ref h_sheets], arf G h_sheets 7 4 shf, oc h_sheets_x 8 [.ref h_sheets_x_r], al G h_sheets_x_r rn rw]) A)) (va_A [oc h 0 [.ref h_kinds, .ref h_now, .ref h_fault, .ref h_tape, .int taped, .int reads, .ref h_got, .ref h_failing, .ref h_past, .int undoMany, .ref h_aside, .ref h_best, .ref h_tried, .ref h_kept, .ref h_keptPast, .int keptMany, .int isKept, .ref h_sheets], arf G h_sheets 7 4 shf, oc h_sheets_x 8 [.ref h_sheets_x_r], al G h_sheets_x_r rn rw] sz)) 0 0 (va_A [oc h 0 [.ref h_kinds, .ref h_now, .ref h_fault, .ref h_tape, .int taped, .int reads, .ref h_got, .ref h_failing, .ref h_past, .int undoMany, .ref h_aside, .ref h_best, .ref h_tried, .ref h_kept, .ref h_keptPast, .int keptMany, .int isKept, .ref h_sheets], arf G h_sheets 7 4 shf, oc h_sheets_x 8 [.ref h_sheets_x_r], al G h_sheets_x_r rn rw] sz) := by
  refine Met.ofW (cc := cX0_lacks) (maxL := 6) (ret := (some .int)) (by decide) rfl ?_
  intro p e s m args below meth c s₁ B hml hv
  obtain ⟨rfl, hsz, hP, hK, hD0⟩ := hv
  have hx := B.exec
  have hb := B.bytes
  have hr := B.returns
  have hts := atoms_spec (ws := (ws_ yX0_lacks cX0_lacks 6 (some .int))) B.pre
  have hts : ∀ w ∈ lw_all, w.before _ s = true := fun w h => hts w (List.mem_cons_of_mem _ h)
  have hown : s.vm.findClass RX0 = some m.cls := findClass_of_methodNamed B.named
  have hlocks := B.notSynchronized
  subst hsz
  have hD := hD0.self (sz := s.heap.size)
  generalize hAe : va_A [oc h 0 [.ref h_kinds, .ref h_now, .ref h_fault, .ref h_tape, .int taped, .int reads, .ref h_got, .ref h_failing, .ref h_past, .int undoMany, .ref h_aside, .ref h_best, .ref h_tried, .ref h_kept, .ref h_keptPast, .int keptMany, .int isKept, .ref h_sheets], arf G h_sheets 7 4 shf, oc h_sheets_x 8 [.ref h_sheets_x_r], al G h_sheets_x_r rn rw] s.heap.size = A at hD ⊢
  have hA : ∀ q : Nat, s.heap.size ≤ q → A q := fun q h => by rw [← hAe]; exact Or.inr h
  have hS : va_S A s.heap s.heap [] := va_S.rf
  have C : Cx p s m meth c cX0_lacks 6 (some .int) RX0 ([.ref h, .int p1, .int p2, .int p3, .int p4] : List Value).toArray G A := ⟨hx, hb, hr, hlocks, hml, hown, hts, hK, hA⟩
  have hl := lv_entry ([.ref h, .int p1, .int p2, .int p3, .int p4]) (n := 6) (Nat.le_of_ble_eq_true rfl)
  rw [lg_entry_eq]
  generalize (lg_sl ([.ref h, .int p1, .int p2, .int p3, .int p4]) ++ List.replicate (6 - (lg_sl ([.ref h, .int p1, .int p2, .int p3, .int p4])).length) Slot.unset).toArray = ls at hl ⊢
  have hl : lv_has ls 6 [(0, .ref h), (1, .int p1), (2, .int p2), (3, .int p3), (4, .int p4)] := hl
  unfold wp_X0_lacks_J at hw
  refine lv_aload_n hx hb dX0_lacks_0 rfl (lv_at hl 0 rfl) ?_
  refine va_get (D := G.1) (ci := 0) (v := .ref h_sheets) (C := RX0) (T := TX0) (N := 18) hx hb hts in_X0 hown hK.1 hP 0 rfl rfl 17 (by decide) (hts _ q273) (fun _ h9 => h9) rfl dX0_lacks_1 ?_
  refine lv_iload_n hx hb dX0_lacks_4 rfl (lv_at hl 1 rfl) ?_
  obtain ⟨i_1, hw⟩ := hw
  refine z_aaldS hx hb hK.1 hP 1 7 rfl rfl i_1 dX0_lacks_5 hsh ?_
  refine lv_astore (lv' := [(5, .ref h_sheets_x), (0, .ref h), (1, .int p1), (2, .int p2), (3, .int p3), (4, .int p4)]) hx hb dX0_lacks_6 hl (by decide) rfl (fun ls hl => ?_)
  refine lv_aload hx hb dX0_lacks_8 (lv_at hl 0 rfl) ?_
  refine va_getN (D := G.1) (ci := 8) (v := .ref h_sheets_x_r) (C := RX8) (T := TX8) (N := 1) hx hb hts in_X8 hown hK.1 hP 2 rfl rfl 0 (by decide) (hK.n q251 rfl) (fun _ h9 => h9) rfl dX0_lacks_10 ?_
  refine lv_ifnonnull (tgt := 19) hx hb dX0_lacks_13 (by decide) ?_
  refine lv_aload hx hb dX0_lacks_19 (lv_at hl 0 rfl) ?_
  have hPc := hP.sub (ws' := [oc h_sheets_x 8 [.ref h_sheets_x_r], al G h_sheets_x_r rn rw]) [2, 3] rfl
  have hDc := hD.sub (ws' := [oc h_sheets_x 8 [.ref h_sheets_x_r], al G h_sheets_x_r rn rw]) [2, 3] (by decide) rfl
  have hFc := va_free (wc := [oc h_sheets_x 8 [.ref h_sheets_x_r], al G h_sheets_x_r rn rw]) hD hS hA [2, 3] rfl
  refine va_calli (va_runV (As := []) (rest := []) ⟨hx, hb, hml, hown, hts⟩ (mt_X8_lane_J l G h_sheets_x h_sheets_x_r s.heap.size rn rw  _ hw) (cwV 0 hts (lw_V q657 q658 q659 q64 q660) rfl rfl rfl (by decide +kernel) ⟨Nat.le_of_ble_eq_true rfl, Nat.le_of_ble_eq_true rfl⟩) ⟨fun a U g mk q => by obtain ⟨q0, q1, qP, qK, qD⟩ := q; exact ⟨q0, q1, qP, qK.call, qD⟩, va_recv hK.1 hP (ci := 8) (q0 := 2) rfl rfl, fun U hU hW => ⟨rfl, by rw [hU], by rw [hU]; exact hPc, hK.warm hW, hDc.weaken (fun _ _ _ _ => trivial)⟩⟩ rfl rfl hl.1 rfl (lv_room (Nat.le_of_ble_eq_true rfl)) dX0_lacks_21 ⟨Nat.le_of_ble_eq_true rfl, Nat.le_of_ble_eq_true rfl⟩) hS (fun q _ h => hFc q h) hFc (fun r_2 _ t H1 locs ht hvm hw hB hz1 hk1 hS => ?_)
  obtain ⟨hP1, hD1⟩ := hB
  rw [ht] at hP1
  obtain ⟨hP, hD⟩ := va_join (wr := [oc h 0 [.ref h_kinds, .ref h_now, .ref h_fault, .ref h_tape, .int taped, .int reads, .ref h_got, .ref h_failing, .ref h_past, .int undoMany, .ref h_aside, .ref h_best, .ref h_tried, .ref h_kept, .ref h_keptPast, .int keptMany, .int isKept, .ref h_sheets], arf G h_sheets 7 4 shf]) (w1 := [oc h_sheets_x 8 [.ref h_sheets_x_r], al G h_sheets_x_r rn rw]) hP hD [2, 3] [0, 1] rfl rfl (by decide) (by decide) hk1 hFc hP1 hD1
  clear hPc hDc hFc hP1 hD1 hz1 hk1 hvm
  generalize H1 = H at hP hS ⊢
  have hP : va_P G.1 gCl [oc h 0 [.ref h_kinds, .ref h_now, .ref h_fault, .ref h_tape, .int taped, .int reads, .ref h_got, .ref h_failing, .ref h_past, .int undoMany, .ref h_aside, .ref h_best, .ref h_tried, .ref h_kept, .ref h_keptPast, .int keptMany, .int isKept, .ref h_sheets], arf G h_sheets 7 4 shf, oc h_sheets_x 8 [.ref h_sheets_x_r], al G h_sheets_x_r rn rw] H := hP
  have hD : va_D A [oc h 0 [.ref h_kinds, .ref h_now, .ref h_fault, .ref h_tape, .int taped, .int reads, .ref h_got, .ref h_failing, .ref h_past, .int undoMany, .ref h_aside, .ref h_best, .ref h_tried, .ref h_kept, .ref h_keptPast, .int keptMany, .int isKept, .ref h_sheets], arf G h_sheets 7 4 shf, oc h_sheets_x 8 [.ref h_sheets_x_r], al G h_sheets_x_r rn rw] := hD
  refine lv_iload_n hx hb dX0_lacks_24 rfl (lv_at hl 3 rfl) ?_
  refine lv_icmp_eq (tgt := 31) hx hb dX0_lacks_25 (by decide) (fun c_3 => ?_) (fun c_3 => ?_)
  · replace hw := hw.1 c_3
    refine lv_iload_n hx hb dX0_lacks_31 rfl (lv_at hl 4 rfl) ?_
    refine lv_if_lt (tgt := 47) hx hb dX0_lacks_32 (by decide) (fun c_4 => ?_) (fun c_4 => ?_)
    · replace hw := hw.1 c_4
      refine lv_bipush (v := (-13 : Int32)) hx hb dX0_lacks_47 (by decide) ?_
      refine lv_goto (tgt := 53) hx hb dX0_lacks_49 (by decide) ?_
      have hP9 := hP
      have hD9 := hD
      exact W.iret (v := (-13 : Int32)) hx hb hr (fun t ht hW => ⟨⟨(-13 : Int32), (), rfl, hw, by rw [ht]; exact hP9, hD9⟩, hS.F ht⟩) hS.2.2 dX0_lacks_53
    · replace hw := hw.2 c_4
      refine lv_iload_n hx hb dX0_lacks_35 rfl (lv_at hl 4 rfl) ?_
      refine lv_aload hx hb dX0_lacks_36 (lv_at hl 0 rfl) ?_
      have hPc := hP.sub (ws' := [oc h_sheets_x 8 [.ref h_sheets_x_r], al G h_sheets_x_r rn rw]) [2, 3] rfl
      have hDc := hD.sub (ws' := [oc h_sheets_x 8 [.ref h_sheets_x_r], al G h_sheets_x_r rn rw]) [2, 3] (by decide) rfl
      have hFc := va_free (wc := [oc h_sheets_x 8 [.ref h_sheets_x_r], al G h_sheets_x_r rn rw]) hD hS hA [2, 3] rfl
      refine va_calli (va_runV (As := []) (rest := [.int p3]) ⟨hx, hb, hml, hown, hts⟩ (mt_X8_size_J l G h_sheets_x h_sheets_x_r H.size rn rw  _ hw) (cwV 0 hts (lw_V q664 q665 q666 q64 q667) rfl rfl rfl (by decide +kernel) ⟨Nat.le_of_ble_eq_true rfl, Nat.le_of_ble_eq_true rfl⟩) ⟨fun a U g mk q => by obtain ⟨q0, q1, qP, qK, qD⟩ := q; exact ⟨q0, q1, qP, qK.call, qD⟩, va_recv hK.1 hP (ci := 8) (q0 := 2) rfl rfl, fun U hU hW => ⟨rfl, by rw [hU], by rw [hU]; exact hPc, hK.warm hW, hDc.weaken (fun _ _ _ _ => trivial)⟩⟩ rfl rfl hl.1 rfl (lv_room (Nat.le_of_ble_eq_true rfl)) dX0_lacks_38 ⟨Nat.le_of_ble_eq_true rfl, Nat.le_of_ble_eq_true rfl⟩) hS (fun q _ h => hFc q h) hFc (fun r_5 _ t H1 locs ht hvm hw hB hz1 hk1 hS => ?_)
      obtain ⟨hP1, hD1⟩ := hB
      rw [ht] at hP1
      obtain ⟨hP, hD⟩ := va_join (wr := [oc h 0 [.ref h_kinds, .ref h_now, .ref h_fault, .ref h_tape, .int taped, .int reads, .ref h_got, .ref h_failing, .ref h_past, .int undoMany, .ref h_aside, .ref h_best, .ref h_tried, .ref h_kept, .ref h_keptPast, .int keptMany, .int isKept, .ref h_sheets], arf G h_sheets 7 4 shf]) (w1 := [oc h_sheets_x 8 [.ref h_sheets_x_r], al G h_sheets_x_r rn rw]) hP hD [2, 3] [0, 1] rfl rfl (by decide) (by decide) hk1 hFc hP1 hD1
      clear hPc hDc hFc hP1 hD1 hz1 hk1 hvm
      generalize H1 = H at hP hS ⊢
      have hP : va_P G.1 gCl [oc h 0 [.ref h_kinds, .ref h_now, .ref h_fault, .ref h_tape, .int taped, .int reads, .ref h_got, .ref h_failing, .ref h_past, .int undoMany, .ref h_aside, .ref h_best, .ref h_tried, .ref h_kept, .ref h_keptPast, .int keptMany, .int isKept, .ref h_sheets], arf G h_sheets 7 4 shf, oc h_sheets_x 8 [.ref h_sheets_x_r], al G h_sheets_x_r rn rw] H := hP
      have hD : va_D A [oc h 0 [.ref h_kinds, .ref h_now, .ref h_fault, .ref h_tape, .int taped, .int reads, .ref h_got, .ref h_failing, .ref h_past, .int undoMany, .ref h_aside, .ref h_best, .ref h_tried, .ref h_kept, .ref h_keptPast, .int keptMany, .int isKept, .ref h_sheets], arf G h_sheets 7 4 shf, oc h_sheets_x 8 [.ref h_sheets_x_r], al G h_sheets_x_r rn rw] := hD
      refine lv_iload hx hb dX0_lacks_41 (lv_at hl 5 rfl) ?_
      refine lv_isub hx hb dX0_lacks_43 ?_
      refine lv_icmp_le (tgt := 52) hx hb dX0_lacks_44 (by decide) (fun c_6 => ?_) (fun c_6 => ?_)
      · replace hw := hw.1 c_6
        refine lv_iconst (v := (0 : Int32)) hx hb dX0_lacks_52 (by decide) ?_
        have hP9 := hP
        have hD9 := hD
        exact W.iret (v := (0 : Int32)) hx hb hr (fun t ht hW => ⟨⟨(0 : Int32), (), rfl, hw, by rw [ht]; exact hP9, hD9⟩, hS.F ht⟩) hS.2.2 dX0_lacks_53
      · replace hw := hw.2 c_6
        refine lv_bipush (v := (-13 : Int32)) hx hb dX0_lacks_47 (by decide) ?_
        refine lv_goto (tgt := 53) hx hb dX0_lacks_49 (by decide) ?_
        have hP9 := hP
        have hD9 := hD
        exact W.iret (v := (-13 : Int32)) hx hb hr (fun t ht hW => ⟨⟨(-13 : Int32), (), rfl, hw, by rw [ht]; exact hP9, hD9⟩, hS.F ht⟩) hS.2.2 dX0_lacks_53
  · replace hw := hw.2 c_3
    refine lv_bipush (v := (-12 : Int32)) hx hb dX0_lacks_28 (by decide) ?_
    have hP9 := hP
    have hD9 := hD
    exact W.iret (v := (-12 : Int32)) hx hb hr (fun t ht hW => ⟨⟨(-12 : Int32), (), rfl, hw, by rw [ht]; exact hP9, hD9⟩, hS.F ht⟩) hS.2.2 dX0_lacks_30
/-! BattleBench.lacks(IIII)I -/
def wp_X0_lacks_N (p1 : Int32) (p2 : Int32) (p3 : Int32) (p4 : Int32) (Q : Int32 → Prop) : Prop :=
  (vp_in p1 4 ∧ Q (-11 : Int32))
set_option maxHeartbeats 4000000 in
theorem mt_X0_lacks_N (l : Launch) (G : GT) (h h_kinds h_now h_fault h_tape h_got h_failing h_past h_aside h_best h_tried h_kept h_keptPast h_sheets h_sheets_x : Nat) (shf : Nat → Option Nat) (sz : Nat) (taped : Int32) (reads : Int32) (undoMany : Int32) (keptMany : Int32) (isKept : Int32) (p1 : Int32) (p2 : Int32) (p3 : Int32) (p4 : Int32)(hsh : shf p1.toNatClampNeg = some h_sheets_x) (Q : Int32 → Prop) (hw : wp_X0_lacks_N p1 p2 p3 p4 Q) : Met l yX0_lacks (ws_ yX0_lacks cX0_lacks 6 (some .int)) ({ frames := 0, cells := 0, slots := 0, locals := 0 } : Room) (va_Pc [.ref h, .int p1, .int p2, .int p3, .int p4] (fun U => U.heap.size = sz ∧ va_P G.1 gCl [oc h 0 [.ref h_kinds, .ref h_now, .ref h_fault, .ref h_tape, .int taped, .int reads, .ref h_got, .ref h_failing, .ref h_past, .int undoMany, .ref h_aside, .ref h_best, .ref h_tried, .ref h_kept, .ref h_keptPast, .int keptMany, .int isKept, .ref h_sheets], arf G h_sheets 7 4 shf, oc h_sheets_x 8 [.null]] U.heap ∧ gK G U ∧ va_D (fun _ => True) [oc h 0 [.ref h_kinds, .ref h_now, .ref h_fault, .ref h_tape, .int taped, .int reads, .ref h_got, .ref h_failing, .ref h_past, .int undoMany, .ref h_aside, .ref h_best, .ref h_tried, .ref h_kept, .ref h_keptPast, .int keptMany, .int isKept, .ref h_sheets], arf G h_sheets 7 4 shf, oc h_sheets_x 8 [.null]])) ((fun A => (va_Qi (fun (r : Int32) (u : Unit) => Q r ) (fun u t => va_P G.1 gCl [oc h 0 [.ref h_kinds, .ref h_now, .ref h_fault, .ref h_tape, .int taped, .int reads, .ref h_got, .ref h_failing, .ref h_past, .int undoMany, .ref h_aside, .ref h_best, .ref h_tried, .ref h_kept, .ref h_keptPast, .int keptMany, .int isKept, .ref h_sheets], arf G h_sheets 7 4 shf, oc h_sheets_x 8 [.null]] t.heap ∧ va_D A [oc h 0 [.ref h_kinds, .ref h_now, .ref h_fault, .ref h_tape, .int taped, .int reads, .ref h_got, .ref h_failing, .ref h_past, .int undoMany, .ref h_aside, .ref h_best, .ref h_tried, .ref h_kept, .ref h_keptPast, .int keptMany, .int isKept, .ref h_sheets], arf G h_sheets 7 4 shf, oc h_sheets_x 8 [.null]]) A)) (va_A [oc h 0 [.ref h_kinds, .ref h_now, .ref h_fault, .ref h_tape, .int taped, .int reads, .ref h_got, .ref h_failing, .ref h_past, .int undoMany, .ref h_aside, .ref h_best, .ref h_tried, .ref h_kept, .ref h_keptPast, .int keptMany, .int isKept, .ref h_sheets], arf G h_sheets 7 4 shf, oc h_sheets_x 8 [.null]] sz)) 0 0 (va_A [oc h 0 [.ref h_kinds, .ref h_now, .ref h_fault, .ref h_tape, .int taped, .int reads, .ref h_got, .ref h_failing, .ref h_past, .int undoMany, .ref h_aside, .ref h_best, .ref h_tried, .ref h_kept, .ref h_keptPast, .int keptMany, .int isKept, .ref h_sheets], arf G h_sheets 7 4 shf, oc h_sheets_x 8 [.null]] sz) := by
  refine Met.ofW (cc := cX0_lacks) (maxL := 6) (ret := (some .int)) (by decide) rfl ?_
  intro p e s m args below meth c s₁ B hml hv
  obtain ⟨rfl, hsz, hP, hK, hD0⟩ := hv
  have hx := B.exec
  have hb := B.bytes
  have hr := B.returns
  have hts := atoms_spec (ws := (ws_ yX0_lacks cX0_lacks 6 (some .int))) B.pre
  have hts : ∀ w ∈ lw_all, w.before _ s = true := fun w h => hts w (List.mem_cons_of_mem _ h)
  have hown : s.vm.findClass RX0 = some m.cls := findClass_of_methodNamed B.named
  have hlocks := B.notSynchronized
  subst hsz
  have hD := hD0.self (sz := s.heap.size)
  generalize hAe : va_A [oc h 0 [.ref h_kinds, .ref h_now, .ref h_fault, .ref h_tape, .int taped, .int reads, .ref h_got, .ref h_failing, .ref h_past, .int undoMany, .ref h_aside, .ref h_best, .ref h_tried, .ref h_kept, .ref h_keptPast, .int keptMany, .int isKept, .ref h_sheets], arf G h_sheets 7 4 shf, oc h_sheets_x 8 [.null]] s.heap.size = A at hD ⊢
  have hA : ∀ q : Nat, s.heap.size ≤ q → A q := fun q h => by rw [← hAe]; exact Or.inr h
  have hS : va_S A s.heap s.heap [] := va_S.rf
  have C : Cx p s m meth c cX0_lacks 6 (some .int) RX0 ([.ref h, .int p1, .int p2, .int p3, .int p4] : List Value).toArray G A := ⟨hx, hb, hr, hlocks, hml, hown, hts, hK, hA⟩
  have hl := lv_entry ([.ref h, .int p1, .int p2, .int p3, .int p4]) (n := 6) (Nat.le_of_ble_eq_true rfl)
  rw [lg_entry_eq]
  generalize (lg_sl ([.ref h, .int p1, .int p2, .int p3, .int p4]) ++ List.replicate (6 - (lg_sl ([.ref h, .int p1, .int p2, .int p3, .int p4])).length) Slot.unset).toArray = ls at hl ⊢
  have hl : lv_has ls 6 [(0, .ref h), (1, .int p1), (2, .int p2), (3, .int p3), (4, .int p4)] := hl
  unfold wp_X0_lacks_N at hw
  refine lv_aload_n hx hb dX0_lacks_0 rfl (lv_at hl 0 rfl) ?_
  refine va_get (D := G.1) (ci := 0) (v := .ref h_sheets) (C := RX0) (T := TX0) (N := 18) hx hb hts in_X0 hown hK.1 hP 0 rfl rfl 17 (by decide) (hts _ q273) (fun _ h9 => h9) rfl dX0_lacks_1 ?_
  refine lv_iload_n hx hb dX0_lacks_4 rfl (lv_at hl 1 rfl) ?_
  obtain ⟨i_1, hw⟩ := hw
  refine z_aaldS hx hb hK.1 hP 1 7 rfl rfl i_1 dX0_lacks_5 hsh ?_
  refine lv_astore (lv' := [(5, .ref h_sheets_x), (0, .ref h), (1, .int p1), (2, .int p2), (3, .int p3), (4, .int p4)]) hx hb dX0_lacks_6 hl (by decide) rfl (fun ls hl => ?_)
  refine lv_aload hx hb dX0_lacks_8 (lv_at hl 0 rfl) ?_
  refine va_getN (D := G.1) (ci := 8) (v := .null) (C := RX8) (T := TX8) (N := 1) hx hb hts in_X8 hown hK.1 hP 2 rfl rfl 0 (by decide) (hK.n q251 rfl) (fun _ h9 => h9) rfl dX0_lacks_10 ?_
  refine lv_ifnonnullN hx hb dX0_lacks_13 ?_
  refine lv_bipush (v := (-11 : Int32)) hx hb dX0_lacks_16 (by decide) ?_
  have hP9 := hP
  have hD9 := hD
  exact W.iret (v := (-11 : Int32)) hx hb hr (fun t ht hW => ⟨⟨(-11 : Int32), (), rfl, hw, by rw [ht]; exact hP9, hD9⟩, hS.F ht⟩) hS.2.2 dX0_lacks_18
/-! BattleBench.isSo(ILBattleBench$Sheet;II)Z -/
def wp_X0_isSo_B_6 (aside : BT) (rn : Nat) (rw : Nat → Int32) (p1 : Int32) (p3 : Int32) (p4 : Int32) (Q : Int32 → (BT × (Nat → Int32)) → Prop)  : Nat → BT → (Nat → Int32) → Int32 → Int32 → Prop
  | 0, _, _, _, _ => False
  | n + 1, now, failing, x5, x6 =>
    (((p4 ≤ x6) → wp_X6_takeFrom now aside  (fun u_2 => (z01 x5 ∧ Q x5 (u_2, failing)))) ∧ (¬ (p4 ≤ x6) → (((x5 = 0) → wp_X6_takeFrom now aside  (fun u_4 => (z01 x5 ∧ Q x5 (u_4, failing)))) ∧ (¬ (x5 = 0) → wp_X0_oneYear now failing  (fun u_5 => wp_X8_get_B rn rw (p3 + x6) (fun r_6 => (vp_in p1 6 ∧ ((¬ ((lg_cmp r_6 (Int32.toInt64 ((lf u_5.1) p1.toNatClampNeg))) = 0) → wp_X0_isSo_B_6 aside rn rw p1 p3 p4 Q  n u_5.1 u_5.2 (0 : Int32) (x6 + (1 : Int32))) ∧ (((lg_cmp r_6 (Int32.toInt64 ((lf u_5.1) p1.toNatClampNeg))) = 0) → wp_X0_isSo_B_6 aside rn rw p1 p3 p4 Q  n u_5.1 u_5.2 (1 : Int32) (x6 + (1 : Int32)))))))))))
set_option maxHeartbeats 4000000 in
theorem wk_X0_isSo_B_6 {p : Program} {l : Launch} {e : Env} {s : State} {m : MethodId} {below : List Frame} {meth : Method} {c : Code} {args : Array Value} {G : GT} {A : Nat → Prop} (h h_kinds h_now h_fault h_tape h_got h_failing h_past h_aside h_best h_tried h_kept h_keptPast h_sheets h_kinds_0 h_kinds_1 h_kinds_2 h_kinds_3 h_kinds_4 h_now_0 h_now_1 h_now_2 h_now_3 h_aside_0 h_aside_1 h_aside_2 h_aside_3 a2 a2_r : Nat) (taped : Int32) (reads : Int32) (undoMany : Int32) (keptMany : Int32) (isKept : Int32) (aside : BT) (rn : Nat) (rw : Nat → Int32) (p1 : Int32) (p3 : Int32) (p4 : Int32) (Q : Int32 → (BT × (Nat → Int32)) → Prop)  (C : Cx p s m meth c cX0_isSo 7 (some .boolean) RX0 args G A)  :
    ∀ (n : Nat), ∀  (now : BT) (failing : Nat → Int32) (x5 : Int32) (x6 : Int32) (H : Heap) (locs : List Loc), va_P G.1 gCl [oc h 0 [.ref h_kinds, .ref h_now, .ref h_fault, .ref h_tape, .int taped, .int reads, .ref h_got, .ref h_failing, .ref h_past, .int undoMany, .ref h_aside, .ref h_best, .ref h_tried, .ref h_kept, .ref h_keptPast, .int keptMany, .int isKept, .ref h_sheets], ar G h_kinds 5 5 [h_kinds_0, h_kinds_1, h_kinds_2, h_kinds_3, h_kinds_4], oc h_kinds_0 1 [], oc h_kinds_1 2 [], oc h_kinds_2 3 [], oc h_kinds_3 4 [], oc h_kinds_4 5 [], oc h_now 6 [.ref h_now_0, .ref h_now_1, .ref h_now_2, .ref h_now_3, .int (mn now), .int (ma now), .int (yr now), .int (dw now)], ai G h_now_0 6 (kd now), ai G h_now_1 18 (pl now), ai G h_now_2 6 (lf now), ai G h_now_3 6 (se now), ai G h_failing 6 failing, oc h_aside 6 [.ref h_aside_0, .ref h_aside_1, .ref h_aside_2, .ref h_aside_3, .int (mn aside), .int (ma aside), .int (yr aside), .int (dw aside)], ai G h_aside_0 6 (kd aside), ai G h_aside_1 18 (pl aside), ai G h_aside_2 6 (lf aside), ai G h_aside_3 6 (se aside), oc a2 8 [.ref a2_r], ay G a2_r rn rw] H → va_D A [oc h 0 [.ref h_kinds, .ref h_now, .ref h_fault, .ref h_tape, .int taped, .int reads, .ref h_got, .ref h_failing, .ref h_past, .int undoMany, .ref h_aside, .ref h_best, .ref h_tried, .ref h_kept, .ref h_keptPast, .int keptMany, .int isKept, .ref h_sheets], ar G h_kinds 5 5 [h_kinds_0, h_kinds_1, h_kinds_2, h_kinds_3, h_kinds_4], oc h_kinds_0 1 [], oc h_kinds_1 2 [], oc h_kinds_2 3 [], oc h_kinds_3 4 [], oc h_kinds_4 5 [], oc h_now 6 [.ref h_now_0, .ref h_now_1, .ref h_now_2, .ref h_now_3, .int (mn now), .int (ma now), .int (yr now), .int (dw now)], ai G h_now_0 6 (kd now), ai G h_now_1 18 (pl now), ai G h_now_2 6 (lf now), ai G h_now_3 6 (se now), ai G h_failing 6 failing, oc h_aside 6 [.ref h_aside_0, .ref h_aside_1, .ref h_aside_2, .ref h_aside_3, .int (mn aside), .int (ma aside), .int (yr aside), .int (dw aside)], ai G h_aside_0 6 (kd aside), ai G h_aside_1 18 (pl aside), ai G h_aside_2 6 (lf aside), ai G h_aside_3 6 (se aside), oc a2 8 [.ref a2_r], ay G a2_r rn rw] → va_S A s.heap H locs → ∀ (ls : Array Slot), lv_has ls 7 [(0, .ref h), (1, .int p1), (2, .ref a2), (3, .int p3), (4, .int p4), (5, .int x5), (6, .int x6)] → wp_X0_isSo_B_6 aside rn rw p1 p3 p4 Q  n now failing x5 x6 → W p l e ({ frames := 8, cells := 0, slots := 0, locals := 202 } : Room) s m args below meth c H locs 0 0 (MQ below (va_Qi (fun (r : Int32) (u : BT × (Nat → Int32)) => Q r u) (fun u t => va_P G.1 gCl [oc h 0 [.ref h_kinds, .ref h_now, .ref h_fault, .ref h_tape, .int taped, .int reads, .ref h_got, .ref h_failing, .ref h_past, .int undoMany, .ref h_aside, .ref h_best, .ref h_tried, .ref h_kept, .ref h_keptPast, .int keptMany, .int isKept, .ref h_sheets], ar G h_kinds 5 5 [h_kinds_0, h_kinds_1, h_kinds_2, h_kinds_3, h_kinds_4], oc h_kinds_0 1 [], oc h_kinds_1 2 [], oc h_kinds_2 3 [], oc h_kinds_3 4 [], oc h_kinds_4 5 [], oc h_now 6 [.ref h_now_0, .ref h_now_1, .ref h_now_2, .ref h_now_3, .int (mn u.1), .int (ma u.1), .int (yr u.1), .int (dw u.1)], ai G h_now_0 6 (kd u.1), ai G h_now_1 18 (pl u.1), ai G h_now_2 6 (lf u.1), ai G h_now_3 6 (se u.1), ai G h_failing 6 u.2, oc h_aside 6 [.ref h_aside_0, .ref h_aside_1, .ref h_aside_2, .ref h_aside_3, .int (mn aside), .int (ma aside), .int (yr aside), .int (dw aside)], ai G h_aside_0 6 (kd aside), ai G h_aside_1 18 (pl aside), ai G h_aside_2 6 (lf aside), ai G h_aside_3 6 (se aside), oc a2 8 [.ref a2_r], ay G a2_r rn rw] t.heap ∧ va_D A [oc h 0 [.ref h_kinds, .ref h_now, .ref h_fault, .ref h_tape, .int taped, .int reads, .ref h_got, .ref h_failing, .ref h_past, .int undoMany, .ref h_aside, .ref h_best, .ref h_tried, .ref h_kept, .ref h_keptPast, .int keptMany, .int isKept, .ref h_sheets], ar G h_kinds 5 5 [h_kinds_0, h_kinds_1, h_kinds_2, h_kinds_3, h_kinds_4], oc h_kinds_0 1 [], oc h_kinds_1 2 [], oc h_kinds_2 3 [], oc h_kinds_3 4 [], oc h_kinds_4 5 [], oc h_now 6 [.ref h_now_0, .ref h_now_1, .ref h_now_2, .ref h_now_3, .int (mn u.1), .int (ma u.1), .int (yr u.1), .int (dw u.1)], ai G h_now_0 6 (kd u.1), ai G h_now_1 18 (pl u.1), ai G h_now_2 6 (lf u.1), ai G h_now_3 6 (se u.1), ai G h_failing 6 u.2, oc h_aside 6 [.ref h_aside_0, .ref h_aside_1, .ref h_aside_2, .ref h_aside_3, .int (mn aside), .int (ma aside), .int (yr aside), .int (dw aside)], ai G h_aside_0 6 (kd aside), ai G h_aside_1 18 (pl aside), ai G h_aside_2 6 (lf aside), ai G h_aside_3 6 (se aside), oc a2 8 [.ref a2_r], ay G a2_r rn rw]) A) args s 0 0 A) (F0 m 6 ls []) := by
  have C9 := C
  obtain ⟨hx, hb, hr, hlocks, hml, hown, hts, hK, hA⟩ := C9
  intro n
  induction n with
  | zero => intro now failing x5 x6 H locs hP hD hS ls hl hw; exact False.elim hw
  | succ n ih =>
    intro now failing x5 x6 H locs hP hD hS ls hl hw
    unfold wp_X0_isSo_B_6 at hw
    refine lv_iload hx hb dX0_isSo_6 (lv_at hl 6 rfl) ?_
    refine lv_iload hx hb dX0_isSo_8 (lv_at hl 4 rfl) ?_
    refine lv_icmp_ge (tgt := 57) hx hb dX0_isSo_10 (by decide) (fun c_1 => ?_) (fun c_1 => ?_)
    · replace hw := hw.1 c_1
      refine lv_aload_n hx hb dX0_isSo_57 rfl (lv_at hl 0 rfl) ?_
      refine va_get (D := G.1) (ci := 0) (v := .ref h_now) (C := RX0) (T := TX0) (N := 18) hx hb hts in_X0 hown hK.1 hP 0 rfl rfl 1 (by decide) (hts _ q257) (fun _ h9 => h9) rfl dX0_isSo_58 ?_
      refine lv_aload_n hx hb dX0_isSo_61 rfl (lv_at hl 0 rfl) ?_
      refine va_get (D := G.1) (ci := 0) (v := .ref h_aside) (C := RX0) (T := TX0) (N := 18) hx hb hts in_X0 hown hK.1 hP 0 rfl rfl 10 (by decide) (hts _ q266) (fun _ h9 => h9) rfl dX0_isSo_62 ?_
      have hPc := hP.sub (ws' := [oc h_now 6 [.ref h_now_0, .ref h_now_1, .ref h_now_2, .ref h_now_3, .int (mn now), .int (ma now), .int (yr now), .int (dw now)], ai G h_now_0 6 (kd now), ai G h_now_1 18 (pl now), ai G h_now_2 6 (lf now), ai G h_now_3 6 (se now), oc h_aside 6 [.ref h_aside_0, .ref h_aside_1, .ref h_aside_2, .ref h_aside_3, .int (mn aside), .int (ma aside), .int (yr aside), .int (dw aside)], ai G h_aside_0 6 (kd aside), ai G h_aside_1 18 (pl aside), ai G h_aside_2 6 (lf aside), ai G h_aside_3 6 (se aside)]) [7, 8, 9, 10, 11, 13, 14, 15, 16, 17] rfl
      have hDc := hD.sub (ws' := [oc h_now 6 [.ref h_now_0, .ref h_now_1, .ref h_now_2, .ref h_now_3, .int (mn now), .int (ma now), .int (yr now), .int (dw now)], ai G h_now_0 6 (kd now), ai G h_now_1 18 (pl now), ai G h_now_2 6 (lf now), ai G h_now_3 6 (se now), oc h_aside 6 [.ref h_aside_0, .ref h_aside_1, .ref h_aside_2, .ref h_aside_3, .int (mn aside), .int (ma aside), .int (yr aside), .int (dw aside)], ai G h_aside_0 6 (kd aside), ai G h_aside_1 18 (pl aside), ai G h_aside_2 6 (lf aside), ai G h_aside_3 6 (se aside)]) [7, 8, 9, 10, 11, 13, 14, 15, 16, 17] (by decide) rfl
      have hFc := va_free (wc := [oc h_now 6 [.ref h_now_0, .ref h_now_1, .ref h_now_2, .ref h_now_3, .int (mn now), .int (ma now), .int (yr now), .int (dw now)], ai G h_now_0 6 (kd now), ai G h_now_1 18 (pl now), ai G h_now_2 6 (lf now), ai G h_now_3 6 (se now), oc h_aside 6 [.ref h_aside_0, .ref h_aside_1, .ref h_aside_2, .ref h_aside_3, .int (mn aside), .int (ma aside), .int (yr aside), .int (dw aside)], ai G h_aside_0 6 (kd aside), ai G h_aside_1 18 (pl aside), ai G h_aside_2 6 (lf aside), ai G h_aside_3 6 (se aside)]) hD hS hA [7, 8, 9, 10, 11, 13, 14, 15, 16, 17] rfl
      refine va_callv (va_runV (As := [.ref h_aside]) (rest := []) ⟨hx, hb, hml, hown, hts⟩ (mt_X6_takeFrom l G h_now h_now_0 h_now_1 h_now_2 h_now_3 h_aside h_aside_0 h_aside_1 h_aside_2 h_aside_3 H.size now aside  _ hw) (cwV 1 hts (lw_V q434 q435 q436 q60 q437) rfl rfl rfl (by decide +kernel) ⟨Nat.le_of_ble_eq_true rfl, Nat.le_of_ble_eq_true rfl⟩) ⟨fun a U g mk q => by obtain ⟨q0, q1, qP, qK, qD⟩ := q; exact ⟨q0, q1, qP, qK.call, qD⟩, va_recv hK.1 hP (ci := 6) (q0 := 7) rfl rfl, fun U hU hW => ⟨rfl, by rw [hU], by rw [hU]; exact hPc, hK.warm hW, hDc.weaken (fun _ _ _ _ => trivial)⟩⟩ rfl rfl hl.1 rfl (lv_room (Nat.le_of_ble_eq_true rfl)) dX0_isSo_65 ⟨Nat.le_of_ble_eq_true rfl, Nat.le_of_ble_eq_true rfl⟩) hS (fun q _ h => hFc q h) hFc (fun u_2 t H1 locs ht hvm hw hB hz1 hk1 hS => ?_)
      obtain ⟨hP1, hD1⟩ := hB
      rw [ht] at hP1
      obtain ⟨hP, hD⟩ := va_join (wr := [oc h 0 [.ref h_kinds, .ref h_now, .ref h_fault, .ref h_tape, .int taped, .int reads, .ref h_got, .ref h_failing, .ref h_past, .int undoMany, .ref h_aside, .ref h_best, .ref h_tried, .ref h_kept, .ref h_keptPast, .int keptMany, .int isKept, .ref h_sheets], ar G h_kinds 5 5 [h_kinds_0, h_kinds_1, h_kinds_2, h_kinds_3, h_kinds_4], oc h_kinds_0 1 [], oc h_kinds_1 2 [], oc h_kinds_2 3 [], oc h_kinds_3 4 [], oc h_kinds_4 5 [], ai G h_failing 6 failing, oc a2 8 [.ref a2_r], ay G a2_r rn rw]) (w1 := [oc h_now 6 [.ref h_now_0, .ref h_now_1, .ref h_now_2, .ref h_now_3, .int (mn u_2), .int (ma u_2), .int (yr u_2), .int (dw u_2)], ai G h_now_0 6 (kd u_2), ai G h_now_1 18 (pl u_2), ai G h_now_2 6 (lf u_2), ai G h_now_3 6 (se u_2), oc h_aside 6 [.ref h_aside_0, .ref h_aside_1, .ref h_aside_2, .ref h_aside_3, .int (mn aside), .int (ma aside), .int (yr aside), .int (dw aside)], ai G h_aside_0 6 (kd aside), ai G h_aside_1 18 (pl aside), ai G h_aside_2 6 (lf aside), ai G h_aside_3 6 (se aside)]) hP hD [7, 8, 9, 10, 11, 13, 14, 15, 16, 17] [0, 1, 2, 3, 4, 5, 6, 12, 18, 19] rfl rfl (by decide) (by decide) hk1 hFc hP1 hD1
      clear hPc hDc hFc hP1 hD1 hz1 hk1 hvm
      generalize H1 = H at hP hS ⊢
      have hP : va_P G.1 gCl [oc h 0 [.ref h_kinds, .ref h_now, .ref h_fault, .ref h_tape, .int taped, .int reads, .ref h_got, .ref h_failing, .ref h_past, .int undoMany, .ref h_aside, .ref h_best, .ref h_tried, .ref h_kept, .ref h_keptPast, .int keptMany, .int isKept, .ref h_sheets], ar G h_kinds 5 5 [h_kinds_0, h_kinds_1, h_kinds_2, h_kinds_3, h_kinds_4], oc h_kinds_0 1 [], oc h_kinds_1 2 [], oc h_kinds_2 3 [], oc h_kinds_3 4 [], oc h_kinds_4 5 [], ai G h_failing 6 failing, oc a2 8 [.ref a2_r], ay G a2_r rn rw, oc h_now 6 [.ref h_now_0, .ref h_now_1, .ref h_now_2, .ref h_now_3, .int (mn u_2), .int (ma u_2), .int (yr u_2), .int (dw u_2)], ai G h_now_0 6 (kd u_2), ai G h_now_1 18 (pl u_2), ai G h_now_2 6 (lf u_2), ai G h_now_3 6 (se u_2), oc h_aside 6 [.ref h_aside_0, .ref h_aside_1, .ref h_aside_2, .ref h_aside_3, .int (mn aside), .int (ma aside), .int (yr aside), .int (dw aside)], ai G h_aside_0 6 (kd aside), ai G h_aside_1 18 (pl aside), ai G h_aside_2 6 (lf aside), ai G h_aside_3 6 (se aside)] H := hP
      have hD : va_D A [oc h 0 [.ref h_kinds, .ref h_now, .ref h_fault, .ref h_tape, .int taped, .int reads, .ref h_got, .ref h_failing, .ref h_past, .int undoMany, .ref h_aside, .ref h_best, .ref h_tried, .ref h_kept, .ref h_keptPast, .int keptMany, .int isKept, .ref h_sheets], ar G h_kinds 5 5 [h_kinds_0, h_kinds_1, h_kinds_2, h_kinds_3, h_kinds_4], oc h_kinds_0 1 [], oc h_kinds_1 2 [], oc h_kinds_2 3 [], oc h_kinds_3 4 [], oc h_kinds_4 5 [], ai G h_failing 6 failing, oc a2 8 [.ref a2_r], ay G a2_r rn rw, oc h_now 6 [.ref h_now_0, .ref h_now_1, .ref h_now_2, .ref h_now_3, .int (mn u_2), .int (ma u_2), .int (yr u_2), .int (dw u_2)], ai G h_now_0 6 (kd u_2), ai G h_now_1 18 (pl u_2), ai G h_now_2 6 (lf u_2), ai G h_now_3 6 (se u_2), oc h_aside 6 [.ref h_aside_0, .ref h_aside_1, .ref h_aside_2, .ref h_aside_3, .int (mn aside), .int (ma aside), .int (yr aside), .int (dw aside)], ai G h_aside_0 6 (kd aside), ai G h_aside_1 18 (pl aside), ai G h_aside_2 6 (lf aside), ai G h_aside_3 6 (se aside)] := hD
      refine lv_iload hx hb dX0_isSo_68 (lv_at hl 5 rfl) ?_
      obtain ⟨hz, hw⟩ := hw
      have hP9 := hP.sub (ws' := [oc h 0 [.ref h_kinds, .ref h_now, .ref h_fault, .ref h_tape, .int taped, .int reads, .ref h_got, .ref h_failing, .ref h_past, .int undoMany, .ref h_aside, .ref h_best, .ref h_tried, .ref h_kept, .ref h_keptPast, .int keptMany, .int isKept, .ref h_sheets], ar G h_kinds 5 5 [h_kinds_0, h_kinds_1, h_kinds_2, h_kinds_3, h_kinds_4], oc h_kinds_0 1 [], oc h_kinds_1 2 [], oc h_kinds_2 3 [], oc h_kinds_3 4 [], oc h_kinds_4 5 [], oc h_now 6 [.ref h_now_0, .ref h_now_1, .ref h_now_2, .ref h_now_3, .int (mn u_2), .int (ma u_2), .int (yr u_2), .int (dw u_2)], ai G h_now_0 6 (kd u_2), ai G h_now_1 18 (pl u_2), ai G h_now_2 6 (lf u_2), ai G h_now_3 6 (se u_2), ai G h_failing 6 failing, oc h_aside 6 [.ref h_aside_0, .ref h_aside_1, .ref h_aside_2, .ref h_aside_3, .int (mn aside), .int (ma aside), .int (yr aside), .int (dw aside)], ai G h_aside_0 6 (kd aside), ai G h_aside_1 18 (pl aside), ai G h_aside_2 6 (lf aside), ai G h_aside_3 6 (se aside), oc a2 8 [.ref a2_r], ay G a2_r rn rw]) [0, 1, 2, 3, 4, 5, 6, 10, 11, 12, 13, 14, 7, 15, 16, 17, 18, 19, 8, 9] rfl
      have hD9 := hD.sub (ws' := [oc h 0 [.ref h_kinds, .ref h_now, .ref h_fault, .ref h_tape, .int taped, .int reads, .ref h_got, .ref h_failing, .ref h_past, .int undoMany, .ref h_aside, .ref h_best, .ref h_tried, .ref h_kept, .ref h_keptPast, .int keptMany, .int isKept, .ref h_sheets], ar G h_kinds 5 5 [h_kinds_0, h_kinds_1, h_kinds_2, h_kinds_3, h_kinds_4], oc h_kinds_0 1 [], oc h_kinds_1 2 [], oc h_kinds_2 3 [], oc h_kinds_3 4 [], oc h_kinds_4 5 [], oc h_now 6 [.ref h_now_0, .ref h_now_1, .ref h_now_2, .ref h_now_3, .int (mn u_2), .int (ma u_2), .int (yr u_2), .int (dw u_2)], ai G h_now_0 6 (kd u_2), ai G h_now_1 18 (pl u_2), ai G h_now_2 6 (lf u_2), ai G h_now_3 6 (se u_2), ai G h_failing 6 failing, oc h_aside 6 [.ref h_aside_0, .ref h_aside_1, .ref h_aside_2, .ref h_aside_3, .int (mn aside), .int (ma aside), .int (yr aside), .int (dw aside)], ai G h_aside_0 6 (kd aside), ai G h_aside_1 18 (pl aside), ai G h_aside_2 6 (lf aside), ai G h_aside_3 6 (se aside), oc a2 8 [.ref a2_r], ay G a2_r rn rw]) [0, 1, 2, 3, 4, 5, 6, 10, 11, 12, 13, 14, 7, 15, 16, 17, 18, 19, 8, 9] (by decide) rfl
      exact W.zret (v := x5) hx hb hr (z01.nar hz) (fun t ht hW => ⟨⟨x5, (u_2, failing), rfl, hw, by rw [ht]; exact hP9, hD9⟩, hS.F ht⟩) hS.2.2 dX0_isSo_70
    · replace hw := hw.2 c_1
      refine lv_iload hx hb dX0_isSo_13 (lv_at hl 5 rfl) ?_
      refine lv_if_eq (tgt := 57) hx hb dX0_isSo_15 (by decide) (fun c_3 => ?_) (fun c_3 => ?_)
      · replace hw := hw.1 c_3
        refine lv_aload_n hx hb dX0_isSo_57 rfl (lv_at hl 0 rfl) ?_
        refine va_get (D := G.1) (ci := 0) (v := .ref h_now) (C := RX0) (T := TX0) (N := 18) hx hb hts in_X0 hown hK.1 hP 0 rfl rfl 1 (by decide) (hts _ q257) (fun _ h9 => h9) rfl dX0_isSo_58 ?_
        refine lv_aload_n hx hb dX0_isSo_61 rfl (lv_at hl 0 rfl) ?_
        refine va_get (D := G.1) (ci := 0) (v := .ref h_aside) (C := RX0) (T := TX0) (N := 18) hx hb hts in_X0 hown hK.1 hP 0 rfl rfl 10 (by decide) (hts _ q266) (fun _ h9 => h9) rfl dX0_isSo_62 ?_
        have hPc := hP.sub (ws' := [oc h_now 6 [.ref h_now_0, .ref h_now_1, .ref h_now_2, .ref h_now_3, .int (mn now), .int (ma now), .int (yr now), .int (dw now)], ai G h_now_0 6 (kd now), ai G h_now_1 18 (pl now), ai G h_now_2 6 (lf now), ai G h_now_3 6 (se now), oc h_aside 6 [.ref h_aside_0, .ref h_aside_1, .ref h_aside_2, .ref h_aside_3, .int (mn aside), .int (ma aside), .int (yr aside), .int (dw aside)], ai G h_aside_0 6 (kd aside), ai G h_aside_1 18 (pl aside), ai G h_aside_2 6 (lf aside), ai G h_aside_3 6 (se aside)]) [7, 8, 9, 10, 11, 13, 14, 15, 16, 17] rfl
        have hDc := hD.sub (ws' := [oc h_now 6 [.ref h_now_0, .ref h_now_1, .ref h_now_2, .ref h_now_3, .int (mn now), .int (ma now), .int (yr now), .int (dw now)], ai G h_now_0 6 (kd now), ai G h_now_1 18 (pl now), ai G h_now_2 6 (lf now), ai G h_now_3 6 (se now), oc h_aside 6 [.ref h_aside_0, .ref h_aside_1, .ref h_aside_2, .ref h_aside_3, .int (mn aside), .int (ma aside), .int (yr aside), .int (dw aside)], ai G h_aside_0 6 (kd aside), ai G h_aside_1 18 (pl aside), ai G h_aside_2 6 (lf aside), ai G h_aside_3 6 (se aside)]) [7, 8, 9, 10, 11, 13, 14, 15, 16, 17] (by decide) rfl
        have hFc := va_free (wc := [oc h_now 6 [.ref h_now_0, .ref h_now_1, .ref h_now_2, .ref h_now_3, .int (mn now), .int (ma now), .int (yr now), .int (dw now)], ai G h_now_0 6 (kd now), ai G h_now_1 18 (pl now), ai G h_now_2 6 (lf now), ai G h_now_3 6 (se now), oc h_aside 6 [.ref h_aside_0, .ref h_aside_1, .ref h_aside_2, .ref h_aside_3, .int (mn aside), .int (ma aside), .int (yr aside), .int (dw aside)], ai G h_aside_0 6 (kd aside), ai G h_aside_1 18 (pl aside), ai G h_aside_2 6 (lf aside), ai G h_aside_3 6 (se aside)]) hD hS hA [7, 8, 9, 10, 11, 13, 14, 15, 16, 17] rfl
        refine va_callv (va_runV (As := [.ref h_aside]) (rest := []) ⟨hx, hb, hml, hown, hts⟩ (mt_X6_takeFrom l G h_now h_now_0 h_now_1 h_now_2 h_now_3 h_aside h_aside_0 h_aside_1 h_aside_2 h_aside_3 H.size now aside  _ hw) (cwV 1 hts (lw_V q434 q435 q436 q60 q437) rfl rfl rfl (by decide +kernel) ⟨Nat.le_of_ble_eq_true rfl, Nat.le_of_ble_eq_true rfl⟩) ⟨fun a U g mk q => by obtain ⟨q0, q1, qP, qK, qD⟩ := q; exact ⟨q0, q1, qP, qK.call, qD⟩, va_recv hK.1 hP (ci := 6) (q0 := 7) rfl rfl, fun U hU hW => ⟨rfl, by rw [hU], by rw [hU]; exact hPc, hK.warm hW, hDc.weaken (fun _ _ _ _ => trivial)⟩⟩ rfl rfl hl.1 rfl (lv_room (Nat.le_of_ble_eq_true rfl)) dX0_isSo_65 ⟨Nat.le_of_ble_eq_true rfl, Nat.le_of_ble_eq_true rfl⟩) hS (fun q _ h => hFc q h) hFc (fun u_4 t H1 locs ht hvm hw hB hz1 hk1 hS => ?_)
        obtain ⟨hP1, hD1⟩ := hB
        rw [ht] at hP1
        obtain ⟨hP, hD⟩ := va_join (wr := [oc h 0 [.ref h_kinds, .ref h_now, .ref h_fault, .ref h_tape, .int taped, .int reads, .ref h_got, .ref h_failing, .ref h_past, .int undoMany, .ref h_aside, .ref h_best, .ref h_tried, .ref h_kept, .ref h_keptPast, .int keptMany, .int isKept, .ref h_sheets], ar G h_kinds 5 5 [h_kinds_0, h_kinds_1, h_kinds_2, h_kinds_3, h_kinds_4], oc h_kinds_0 1 [], oc h_kinds_1 2 [], oc h_kinds_2 3 [], oc h_kinds_3 4 [], oc h_kinds_4 5 [], ai G h_failing 6 failing, oc a2 8 [.ref a2_r], ay G a2_r rn rw]) (w1 := [oc h_now 6 [.ref h_now_0, .ref h_now_1, .ref h_now_2, .ref h_now_3, .int (mn u_4), .int (ma u_4), .int (yr u_4), .int (dw u_4)], ai G h_now_0 6 (kd u_4), ai G h_now_1 18 (pl u_4), ai G h_now_2 6 (lf u_4), ai G h_now_3 6 (se u_4), oc h_aside 6 [.ref h_aside_0, .ref h_aside_1, .ref h_aside_2, .ref h_aside_3, .int (mn aside), .int (ma aside), .int (yr aside), .int (dw aside)], ai G h_aside_0 6 (kd aside), ai G h_aside_1 18 (pl aside), ai G h_aside_2 6 (lf aside), ai G h_aside_3 6 (se aside)]) hP hD [7, 8, 9, 10, 11, 13, 14, 15, 16, 17] [0, 1, 2, 3, 4, 5, 6, 12, 18, 19] rfl rfl (by decide) (by decide) hk1 hFc hP1 hD1
        clear hPc hDc hFc hP1 hD1 hz1 hk1 hvm
        generalize H1 = H at hP hS ⊢
        have hP : va_P G.1 gCl [oc h 0 [.ref h_kinds, .ref h_now, .ref h_fault, .ref h_tape, .int taped, .int reads, .ref h_got, .ref h_failing, .ref h_past, .int undoMany, .ref h_aside, .ref h_best, .ref h_tried, .ref h_kept, .ref h_keptPast, .int keptMany, .int isKept, .ref h_sheets], ar G h_kinds 5 5 [h_kinds_0, h_kinds_1, h_kinds_2, h_kinds_3, h_kinds_4], oc h_kinds_0 1 [], oc h_kinds_1 2 [], oc h_kinds_2 3 [], oc h_kinds_3 4 [], oc h_kinds_4 5 [], ai G h_failing 6 failing, oc a2 8 [.ref a2_r], ay G a2_r rn rw, oc h_now 6 [.ref h_now_0, .ref h_now_1, .ref h_now_2, .ref h_now_3, .int (mn u_4), .int (ma u_4), .int (yr u_4), .int (dw u_4)], ai G h_now_0 6 (kd u_4), ai G h_now_1 18 (pl u_4), ai G h_now_2 6 (lf u_4), ai G h_now_3 6 (se u_4), oc h_aside 6 [.ref h_aside_0, .ref h_aside_1, .ref h_aside_2, .ref h_aside_3, .int (mn aside), .int (ma aside), .int (yr aside), .int (dw aside)], ai G h_aside_0 6 (kd aside), ai G h_aside_1 18 (pl aside), ai G h_aside_2 6 (lf aside), ai G h_aside_3 6 (se aside)] H := hP
        have hD : va_D A [oc h 0 [.ref h_kinds, .ref h_now, .ref h_fault, .ref h_tape, .int taped, .int reads, .ref h_got, .ref h_failing, .ref h_past, .int undoMany, .ref h_aside, .ref h_best, .ref h_tried, .ref h_kept, .ref h_keptPast, .int keptMany, .int isKept, .ref h_sheets], ar G h_kinds 5 5 [h_kinds_0, h_kinds_1, h_kinds_2, h_kinds_3, h_kinds_4], oc h_kinds_0 1 [], oc h_kinds_1 2 [], oc h_kinds_2 3 [], oc h_kinds_3 4 [], oc h_kinds_4 5 [], ai G h_failing 6 failing, oc a2 8 [.ref a2_r], ay G a2_r rn rw, oc h_now 6 [.ref h_now_0, .ref h_now_1, .ref h_now_2, .ref h_now_3, .int (mn u_4), .int (ma u_4), .int (yr u_4), .int (dw u_4)], ai G h_now_0 6 (kd u_4), ai G h_now_1 18 (pl u_4), ai G h_now_2 6 (lf u_4), ai G h_now_3 6 (se u_4), oc h_aside 6 [.ref h_aside_0, .ref h_aside_1, .ref h_aside_2, .ref h_aside_3, .int (mn aside), .int (ma aside), .int (yr aside), .int (dw aside)], ai G h_aside_0 6 (kd aside), ai G h_aside_1 18 (pl aside), ai G h_aside_2 6 (lf aside), ai G h_aside_3 6 (se aside)] := hD
        refine lv_iload hx hb dX0_isSo_68 (lv_at hl 5 rfl) ?_
        obtain ⟨hz, hw⟩ := hw
        have hP9 := hP.sub (ws' := [oc h 0 [.ref h_kinds, .ref h_now, .ref h_fault, .ref h_tape, .int taped, .int reads, .ref h_got, .ref h_failing, .ref h_past, .int undoMany, .ref h_aside, .ref h_best, .ref h_tried, .ref h_kept, .ref h_keptPast, .int keptMany, .int isKept, .ref h_sheets], ar G h_kinds 5 5 [h_kinds_0, h_kinds_1, h_kinds_2, h_kinds_3, h_kinds_4], oc h_kinds_0 1 [], oc h_kinds_1 2 [], oc h_kinds_2 3 [], oc h_kinds_3 4 [], oc h_kinds_4 5 [], oc h_now 6 [.ref h_now_0, .ref h_now_1, .ref h_now_2, .ref h_now_3, .int (mn u_4), .int (ma u_4), .int (yr u_4), .int (dw u_4)], ai G h_now_0 6 (kd u_4), ai G h_now_1 18 (pl u_4), ai G h_now_2 6 (lf u_4), ai G h_now_3 6 (se u_4), ai G h_failing 6 failing, oc h_aside 6 [.ref h_aside_0, .ref h_aside_1, .ref h_aside_2, .ref h_aside_3, .int (mn aside), .int (ma aside), .int (yr aside), .int (dw aside)], ai G h_aside_0 6 (kd aside), ai G h_aside_1 18 (pl aside), ai G h_aside_2 6 (lf aside), ai G h_aside_3 6 (se aside), oc a2 8 [.ref a2_r], ay G a2_r rn rw]) [0, 1, 2, 3, 4, 5, 6, 10, 11, 12, 13, 14, 7, 15, 16, 17, 18, 19, 8, 9] rfl
        have hD9 := hD.sub (ws' := [oc h 0 [.ref h_kinds, .ref h_now, .ref h_fault, .ref h_tape, .int taped, .int reads, .ref h_got, .ref h_failing, .ref h_past, .int undoMany, .ref h_aside, .ref h_best, .ref h_tried, .ref h_kept, .ref h_keptPast, .int keptMany, .int isKept, .ref h_sheets], ar G h_kinds 5 5 [h_kinds_0, h_kinds_1, h_kinds_2, h_kinds_3, h_kinds_4], oc h_kinds_0 1 [], oc h_kinds_1 2 [], oc h_kinds_2 3 [], oc h_kinds_3 4 [], oc h_kinds_4 5 [], oc h_now 6 [.ref h_now_0, .ref h_now_1, .ref h_now_2, .ref h_now_3, .int (mn u_4), .int (ma u_4), .int (yr u_4), .int (dw u_4)], ai G h_now_0 6 (kd u_4), ai G h_now_1 18 (pl u_4), ai G h_now_2 6 (lf u_4), ai G h_now_3 6 (se u_4), ai G h_failing 6 failing, oc h_aside 6 [.ref h_aside_0, .ref h_aside_1, .ref h_aside_2, .ref h_aside_3, .int (mn aside), .int (ma aside), .int (yr aside), .int (dw aside)], ai G h_aside_0 6 (kd aside), ai G h_aside_1 18 (pl aside), ai G h_aside_2 6 (lf aside), ai G h_aside_3 6 (se aside), oc a2 8 [.ref a2_r], ay G a2_r rn rw]) [0, 1, 2, 3, 4, 5, 6, 10, 11, 12, 13, 14, 7, 15, 16, 17, 18, 19, 8, 9] (by decide) rfl
        exact W.zret (v := x5) hx hb hr (z01.nar hz) (fun t ht hW => ⟨⟨x5, (u_4, failing), rfl, hw, by rw [ht]; exact hP9, hD9⟩, hS.F ht⟩) hS.2.2 dX0_isSo_70
      · replace hw := hw.2 c_3
        refine lv_aload_n hx hb dX0_isSo_18 rfl (lv_at hl 0 rfl) ?_
        have hPc := hP.sub (ws' := [oc h 0 [.ref h_kinds, .ref h_now, .ref h_fault, .ref h_tape, .int taped, .int reads, .ref h_got, .ref h_failing, .ref h_past, .int undoMany, .ref h_aside, .ref h_best, .ref h_tried, .ref h_kept, .ref h_keptPast, .int keptMany, .int isKept, .ref h_sheets], ar G h_kinds 5 5 [h_kinds_0, h_kinds_1, h_kinds_2, h_kinds_3, h_kinds_4], oc h_kinds_0 1 [], oc h_kinds_1 2 [], oc h_kinds_2 3 [], oc h_kinds_3 4 [], oc h_kinds_4 5 [], oc h_now 6 [.ref h_now_0, .ref h_now_1, .ref h_now_2, .ref h_now_3, .int (mn now), .int (ma now), .int (yr now), .int (dw now)], ai G h_now_0 6 (kd now), ai G h_now_1 18 (pl now), ai G h_now_2 6 (lf now), ai G h_now_3 6 (se now), ai G h_failing 6 failing]) [0, 1, 2, 3, 4, 5, 6, 7, 8, 9, 10, 11, 12] rfl
        have hDc := hD.sub (ws' := [oc h 0 [.ref h_kinds, .ref h_now, .ref h_fault, .ref h_tape, .int taped, .int reads, .ref h_got, .ref h_failing, .ref h_past, .int undoMany, .ref h_aside, .ref h_best, .ref h_tried, .ref h_kept, .ref h_keptPast, .int keptMany, .int isKept, .ref h_sheets], ar G h_kinds 5 5 [h_kinds_0, h_kinds_1, h_kinds_2, h_kinds_3, h_kinds_4], oc h_kinds_0 1 [], oc h_kinds_1 2 [], oc h_kinds_2 3 [], oc h_kinds_3 4 [], oc h_kinds_4 5 [], oc h_now 6 [.ref h_now_0, .ref h_now_1, .ref h_now_2, .ref h_now_3, .int (mn now), .int (ma now), .int (yr now), .int (dw now)], ai G h_now_0 6 (kd now), ai G h_now_1 18 (pl now), ai G h_now_2 6 (lf now), ai G h_now_3 6 (se now), ai G h_failing 6 failing]) [0, 1, 2, 3, 4, 5, 6, 7, 8, 9, 10, 11, 12] (by decide) rfl
        have hFc := va_free (wc := [oc h 0 [.ref h_kinds, .ref h_now, .ref h_fault, .ref h_tape, .int taped, .int reads, .ref h_got, .ref h_failing, .ref h_past, .int undoMany, .ref h_aside, .ref h_best, .ref h_tried, .ref h_kept, .ref h_keptPast, .int keptMany, .int isKept, .ref h_sheets], ar G h_kinds 5 5 [h_kinds_0, h_kinds_1, h_kinds_2, h_kinds_3, h_kinds_4], oc h_kinds_0 1 [], oc h_kinds_1 2 [], oc h_kinds_2 3 [], oc h_kinds_3 4 [], oc h_kinds_4 5 [], oc h_now 6 [.ref h_now_0, .ref h_now_1, .ref h_now_2, .ref h_now_3, .int (mn now), .int (ma now), .int (yr now), .int (dw now)], ai G h_now_0 6 (kd now), ai G h_now_1 18 (pl now), ai G h_now_2 6 (lf now), ai G h_now_3 6 (se now), ai G h_failing 6 failing]) hD hS hA [0, 1, 2, 3, 4, 5, 6, 7, 8, 9, 10, 11, 12] rfl
        refine va_callv (va_runV (As := []) (rest := []) ⟨hx, hb, hml, hown, hts⟩ (mt_X0_oneYear l G h h_kinds h_now h_fault h_tape h_got h_failing h_past h_aside h_best h_tried h_kept h_keptPast h_sheets h_kinds_0 h_kinds_1 h_kinds_2 h_kinds_3 h_kinds_4 h_now_0 h_now_1 h_now_2 h_now_3 H.size taped reads undoMany keptMany isKept now failing  _ hw) (cwV 0 hts (lw_V q514 q516 qs16 q54 q517) rfl rfl rfl (by decide +kernel) ⟨Nat.le_of_ble_eq_true rfl, Nat.le_of_ble_eq_true rfl⟩) ⟨fun a U g mk q => by obtain ⟨q0, q1, qP, qK, qD⟩ := q; exact ⟨q0, q1, qP, qK.call, qD⟩, va_recv hK.1 hP (ci := 0) (q0 := 0) rfl rfl, fun U hU hW => ⟨rfl, by rw [hU], by rw [hU]; exact hPc, hK.warm hW, hDc.weaken (fun _ _ _ _ => trivial)⟩⟩ rfl rfl hl.1 rfl (lv_room (Nat.le_of_ble_eq_true rfl)) dX0_isSo_19 ⟨Nat.le_of_ble_eq_true rfl, Nat.le_of_ble_eq_true rfl⟩) hS (fun q _ h => hFc q h) hFc (fun u_5 t H1 locs ht hvm hw hB hz1 hk1 hS => ?_)
        obtain ⟨hP1, hD1⟩ := hB
        rw [ht] at hP1
        obtain ⟨hP, hD⟩ := va_join (wr := [oc h_aside 6 [.ref h_aside_0, .ref h_aside_1, .ref h_aside_2, .ref h_aside_3, .int (mn aside), .int (ma aside), .int (yr aside), .int (dw aside)], ai G h_aside_0 6 (kd aside), ai G h_aside_1 18 (pl aside), ai G h_aside_2 6 (lf aside), ai G h_aside_3 6 (se aside), oc a2 8 [.ref a2_r], ay G a2_r rn rw]) (w1 := [oc h 0 [.ref h_kinds, .ref h_now, .ref h_fault, .ref h_tape, .int taped, .int reads, .ref h_got, .ref h_failing, .ref h_past, .int undoMany, .ref h_aside, .ref h_best, .ref h_tried, .ref h_kept, .ref h_keptPast, .int keptMany, .int isKept, .ref h_sheets], ar G h_kinds 5 5 [h_kinds_0, h_kinds_1, h_kinds_2, h_kinds_3, h_kinds_4], oc h_kinds_0 1 [], oc h_kinds_1 2 [], oc h_kinds_2 3 [], oc h_kinds_3 4 [], oc h_kinds_4 5 [], oc h_now 6 [.ref h_now_0, .ref h_now_1, .ref h_now_2, .ref h_now_3, .int (mn u_5.1), .int (ma u_5.1), .int (yr u_5.1), .int (dw u_5.1)], ai G h_now_0 6 (kd u_5.1), ai G h_now_1 18 (pl u_5.1), ai G h_now_2 6 (lf u_5.1), ai G h_now_3 6 (se u_5.1), ai G h_failing 6 u_5.2]) hP hD [0, 1, 2, 3, 4, 5, 6, 7, 8, 9, 10, 11, 12] [13, 14, 15, 16, 17, 18, 19] rfl rfl (by decide) (by decide) hk1 hFc hP1 hD1
        clear hPc hDc hFc hP1 hD1 hz1 hk1 hvm
        generalize H1 = H at hP hS ⊢
        have hP : va_P G.1 gCl [oc h_aside 6 [.ref h_aside_0, .ref h_aside_1, .ref h_aside_2, .ref h_aside_3, .int (mn aside), .int (ma aside), .int (yr aside), .int (dw aside)], ai G h_aside_0 6 (kd aside), ai G h_aside_1 18 (pl aside), ai G h_aside_2 6 (lf aside), ai G h_aside_3 6 (se aside), oc a2 8 [.ref a2_r], ay G a2_r rn rw, oc h 0 [.ref h_kinds, .ref h_now, .ref h_fault, .ref h_tape, .int taped, .int reads, .ref h_got, .ref h_failing, .ref h_past, .int undoMany, .ref h_aside, .ref h_best, .ref h_tried, .ref h_kept, .ref h_keptPast, .int keptMany, .int isKept, .ref h_sheets], ar G h_kinds 5 5 [h_kinds_0, h_kinds_1, h_kinds_2, h_kinds_3, h_kinds_4], oc h_kinds_0 1 [], oc h_kinds_1 2 [], oc h_kinds_2 3 [], oc h_kinds_3 4 [], oc h_kinds_4 5 [], oc h_now 6 [.ref h_now_0, .ref h_now_1, .ref h_now_2, .ref h_now_3, .int (mn u_5.1), .int (ma u_5.1), .int (yr u_5.1), .int (dw u_5.1)], ai G h_now_0 6 (kd u_5.1), ai G h_now_1 18 (pl u_5.1), ai G h_now_2 6 (lf u_5.1), ai G h_now_3 6 (se u_5.1), ai G h_failing 6 u_5.2] H := hP
        have hD : va_D A [oc h_aside 6 [.ref h_aside_0, .ref h_aside_1, .ref h_aside_2, .ref h_aside_3, .int (mn aside), .int (ma aside), .int (yr aside), .int (dw aside)], ai G h_aside_0 6 (kd aside), ai G h_aside_1 18 (pl aside), ai G h_aside_2 6 (lf aside), ai G h_aside_3 6 (se aside), oc a2 8 [.ref a2_r], ay G a2_r rn rw, oc h 0 [.ref h_kinds, .ref h_now, .ref h_fault, .ref h_tape, .int taped, .int reads, .ref h_got, .ref h_failing, .ref h_past, .int undoMany, .ref h_aside, .ref h_best, .ref h_tried, .ref h_kept, .ref h_keptPast, .int keptMany, .int isKept, .ref h_sheets], ar G h_kinds 5 5 [h_kinds_0, h_kinds_1, h_kinds_2, h_kinds_3, h_kinds_4], oc h_kinds_0 1 [], oc h_kinds_1 2 [], oc h_kinds_2 3 [], oc h_kinds_3 4 [], oc h_kinds_4 5 [], oc h_now 6 [.ref h_now_0, .ref h_now_1, .ref h_now_2, .ref h_now_3, .int (mn u_5.1), .int (ma u_5.1), .int (yr u_5.1), .int (dw u_5.1)], ai G h_now_0 6 (kd u_5.1), ai G h_now_1 18 (pl u_5.1), ai G h_now_2 6 (lf u_5.1), ai G h_now_3 6 (se u_5.1), ai G h_failing 6 u_5.2] := hD
        refine lv_aload_n hx hb dX0_isSo_22 rfl (lv_at hl 2 rfl) ?_
        refine lv_iload_n hx hb dX0_isSo_23 rfl (lv_at hl 3 rfl) ?_
        refine lv_iload hx hb dX0_isSo_24 (lv_at hl 6 rfl) ?_
        refine lv_iadd hx hb dX0_isSo_26 ?_
        have hPc := hP.sub (ws' := [oc a2 8 [.ref a2_r], ay G a2_r rn rw]) [5, 6] rfl
        have hDc := hD.sub (ws' := [oc a2 8 [.ref a2_r], ay G a2_r rn rw]) [5, 6] (by decide) rfl
        have hFc := va_free (wc := [oc a2 8 [.ref a2_r], ay G a2_r rn rw]) hD hS hA [5, 6] rfl
        refine va_calll (va_runV (As := [.int (p3 + x6)]) (rest := []) ⟨hx, hb, hml, hown, hts⟩ (mt_X8_get_B l G a2 a2_r H.size rn rw (p3 + x6) _ hw) (cwV 1 hts (lw_V q677 q678 q679 q64 q680) rfl rfl rfl (by decide +kernel) ⟨Nat.le_of_ble_eq_true rfl, Nat.le_of_ble_eq_true rfl⟩) ⟨fun a U g mk q => by obtain ⟨q0, q1, qP, qK, qD⟩ := q; exact ⟨q0, q1, qP, qK.call, qD⟩, va_recv hK.1 hP (ci := 8) (q0 := 5) rfl rfl, fun U hU hW => ⟨rfl, by rw [hU], by rw [hU]; exact hPc, hK.warm hW, hDc.weaken (fun _ _ _ _ => trivial)⟩⟩ rfl rfl hl.1 rfl (lv_room (Nat.le_of_ble_eq_true rfl)) dX0_isSo_27 ⟨Nat.le_of_ble_eq_true rfl, Nat.le_of_ble_eq_true rfl⟩) hS (fun q _ h => hFc q h) hFc (fun r_6 _ t H1 locs ht hvm hw hB hz1 hk1 hS => ?_)
        obtain ⟨hP1, hD1⟩ := hB
        rw [ht] at hP1
        obtain ⟨hP, hD⟩ := va_join (wr := [oc h_aside 6 [.ref h_aside_0, .ref h_aside_1, .ref h_aside_2, .ref h_aside_3, .int (mn aside), .int (ma aside), .int (yr aside), .int (dw aside)], ai G h_aside_0 6 (kd aside), ai G h_aside_1 18 (pl aside), ai G h_aside_2 6 (lf aside), ai G h_aside_3 6 (se aside), oc h 0 [.ref h_kinds, .ref h_now, .ref h_fault, .ref h_tape, .int taped, .int reads, .ref h_got, .ref h_failing, .ref h_past, .int undoMany, .ref h_aside, .ref h_best, .ref h_tried, .ref h_kept, .ref h_keptPast, .int keptMany, .int isKept, .ref h_sheets], ar G h_kinds 5 5 [h_kinds_0, h_kinds_1, h_kinds_2, h_kinds_3, h_kinds_4], oc h_kinds_0 1 [], oc h_kinds_1 2 [], oc h_kinds_2 3 [], oc h_kinds_3 4 [], oc h_kinds_4 5 [], oc h_now 6 [.ref h_now_0, .ref h_now_1, .ref h_now_2, .ref h_now_3, .int (mn u_5.1), .int (ma u_5.1), .int (yr u_5.1), .int (dw u_5.1)], ai G h_now_0 6 (kd u_5.1), ai G h_now_1 18 (pl u_5.1), ai G h_now_2 6 (lf u_5.1), ai G h_now_3 6 (se u_5.1), ai G h_failing 6 u_5.2]) (w1 := [oc a2 8 [.ref a2_r], ay G a2_r rn rw]) hP hD [5, 6] [0, 1, 2, 3, 4, 7, 8, 9, 10, 11, 12, 13, 14, 15, 16, 17, 18, 19] rfl rfl (by decide) (by decide) hk1 hFc hP1 hD1
        clear hPc hDc hFc hP1 hD1 hz1 hk1 hvm
        generalize H1 = H at hP hS ⊢
        have hP : va_P G.1 gCl [oc h_aside 6 [.ref h_aside_0, .ref h_aside_1, .ref h_aside_2, .ref h_aside_3, .int (mn aside), .int (ma aside), .int (yr aside), .int (dw aside)], ai G h_aside_0 6 (kd aside), ai G h_aside_1 18 (pl aside), ai G h_aside_2 6 (lf aside), ai G h_aside_3 6 (se aside), oc h 0 [.ref h_kinds, .ref h_now, .ref h_fault, .ref h_tape, .int taped, .int reads, .ref h_got, .ref h_failing, .ref h_past, .int undoMany, .ref h_aside, .ref h_best, .ref h_tried, .ref h_kept, .ref h_keptPast, .int keptMany, .int isKept, .ref h_sheets], ar G h_kinds 5 5 [h_kinds_0, h_kinds_1, h_kinds_2, h_kinds_3, h_kinds_4], oc h_kinds_0 1 [], oc h_kinds_1 2 [], oc h_kinds_2 3 [], oc h_kinds_3 4 [], oc h_kinds_4 5 [], oc h_now 6 [.ref h_now_0, .ref h_now_1, .ref h_now_2, .ref h_now_3, .int (mn u_5.1), .int (ma u_5.1), .int (yr u_5.1), .int (dw u_5.1)], ai G h_now_0 6 (kd u_5.1), ai G h_now_1 18 (pl u_5.1), ai G h_now_2 6 (lf u_5.1), ai G h_now_3 6 (se u_5.1), ai G h_failing 6 u_5.2, oc a2 8 [.ref a2_r], ay G a2_r rn rw] H := hP
        have hD : va_D A [oc h_aside 6 [.ref h_aside_0, .ref h_aside_1, .ref h_aside_2, .ref h_aside_3, .int (mn aside), .int (ma aside), .int (yr aside), .int (dw aside)], ai G h_aside_0 6 (kd aside), ai G h_aside_1 18 (pl aside), ai G h_aside_2 6 (lf aside), ai G h_aside_3 6 (se aside), oc h 0 [.ref h_kinds, .ref h_now, .ref h_fault, .ref h_tape, .int taped, .int reads, .ref h_got, .ref h_failing, .ref h_past, .int undoMany, .ref h_aside, .ref h_best, .ref h_tried, .ref h_kept, .ref h_keptPast, .int keptMany, .int isKept, .ref h_sheets], ar G h_kinds 5 5 [h_kinds_0, h_kinds_1, h_kinds_2, h_kinds_3, h_kinds_4], oc h_kinds_0 1 [], oc h_kinds_1 2 [], oc h_kinds_2 3 [], oc h_kinds_3 4 [], oc h_kinds_4 5 [], oc h_now 6 [.ref h_now_0, .ref h_now_1, .ref h_now_2, .ref h_now_3, .int (mn u_5.1), .int (ma u_5.1), .int (yr u_5.1), .int (dw u_5.1)], ai G h_now_0 6 (kd u_5.1), ai G h_now_1 18 (pl u_5.1), ai G h_now_2 6 (lf u_5.1), ai G h_now_3 6 (se u_5.1), ai G h_failing 6 u_5.2, oc a2 8 [.ref a2_r], ay G a2_r rn rw] := hD
        refine lv_aload_n hx hb dX0_isSo_30 rfl (lv_at hl 0 rfl) ?_
        refine va_get (D := G.1) (ci := 0) (v := .ref h_now) (C := RX0) (T := TX0) (N := 18) hx hb hts in_X0 hown hK.1 hP 5 rfl rfl 1 (by decide) (hts _ q257) (fun _ h9 => h9) rfl dX0_isSo_31 ?_
        refine va_getN (D := G.1) (ci := 6) (v := .ref h_now_2) (C := RX6) (T := TX6) (N := 8) hx hb hts in_X6 hown hK.1 hP 12 rfl rfl 2 (by decide) (hK.n q132 rfl) (fun _ h9 => h9) rfl dX0_isSo_34 ?_
        refine lv_iload_n hx hb dX0_isSo_37 rfl (lv_at hl 1 rfl) ?_
        obtain ⟨i_7, hw⟩ := hw
        refine z_iald hx hb hK.1 hP 15 0 rfl rfl i_7 dX0_isSo_38 (k := p1.toNatClampNeg) rfl ?_
        refine lv_i2l hx hb dX0_isSo_39 rfl ?_
        refine W.lcmp hx hb dX0_isSo_40 ?_
        refine lv_if_ne (tgt := 48) hx hb dX0_isSo_41 (by decide) (fun c_8 => ?_) (fun c_8 => ?_)
        · replace hw := hw.1 c_8
          refine lv_iconst (v := (0 : Int32)) hx hb dX0_isSo_48 (by decide) ?_
          refine lv_istore (lv' := [(5, .int (0 : Int32)), (0, .ref h), (1, .int p1), (2, .ref a2), (3, .int p3), (4, .int p4), (6, .int x6)]) hx hb dX0_isSo_49 hl (by decide) rfl (fun ls hl => ?_)
          refine lv_iinc (v := (x6 + (1 : Int32))) (lv' := [(6, .int (x6 + (1 : Int32))), (5, .int (0 : Int32)), (0, .ref h), (1, .int p1), (2, .ref a2), (3, .int p3), (4, .int p4)]) hx hb dX0_isSo_51 hl (k := 6) rfl rfl (by decide) rfl (fun ls hl => ?_)
          refine lv_goto (tgt := 6) hx hb dX0_isSo_54 (by decide) ?_
          exact ih u_5.1 u_5.2 (0 : Int32) (x6 + (1 : Int32)) H locs (hP.sub [5, 6, 7, 8, 9, 10, 11, 12, 13, 14, 15, 16, 17, 0, 1, 2, 3, 4, 18, 19] rfl) (hD.sub [5, 6, 7, 8, 9, 10, 11, 12, 13, 14, 15, 16, 17, 0, 1, 2, 3, 4, 18, 19] (by decide) rfl) hS ls (lv_sub hl [2, 3, 4, 5, 6, 1, 0] rfl) hw
        · replace hw := hw.2 c_8
          refine lv_iconst (v := (1 : Int32)) hx hb dX0_isSo_44 (by decide) ?_
          refine lv_goto (tgt := 49) hx hb dX0_isSo_45 (by decide) ?_
          refine lv_istore (lv' := [(5, .int (1 : Int32)), (0, .ref h), (1, .int p1), (2, .ref a2), (3, .int p3), (4, .int p4), (6, .int x6)]) hx hb dX0_isSo_49 hl (by decide) rfl (fun ls hl => ?_)
          refine lv_iinc (v := (x6 + (1 : Int32))) (lv' := [(6, .int (x6 + (1 : Int32))), (5, .int (1 : Int32)), (0, .ref h), (1, .int p1), (2, .ref a2), (3, .int p3), (4, .int p4)]) hx hb dX0_isSo_51 hl (k := 6) rfl rfl (by decide) rfl (fun ls hl => ?_)
          refine lv_goto (tgt := 6) hx hb dX0_isSo_54 (by decide) ?_
          exact ih u_5.1 u_5.2 (1 : Int32) (x6 + (1 : Int32)) H locs (hP.sub [5, 6, 7, 8, 9, 10, 11, 12, 13, 14, 15, 16, 17, 0, 1, 2, 3, 4, 18, 19] rfl) (hD.sub [5, 6, 7, 8, 9, 10, 11, 12, 13, 14, 15, 16, 17, 0, 1, 2, 3, 4, 18, 19] (by decide) rfl) hS ls (lv_sub hl [2, 3, 4, 5, 6, 1, 0] rfl) hw
def wp_X0_isSo_B (now : BT) (failing : Nat → Int32) (aside : BT) (rn : Nat) (rw : Nat → Int32) (p1 : Int32) (p3 : Int32) (p4 : Int32) (Q : Int32 → (BT × (Nat → Int32)) → Prop) : Prop :=
  (∃ j_ : Nat, wp_X0_isSo_B_6 aside rn rw p1 p3 p4 Q  j_ now failing (1 : Int32) (0 : Int32))
set_option maxHeartbeats 4000000 in
theorem mt_X0_isSo_B (l : Launch) (G : GT) (h h_kinds h_now h_fault h_tape h_got h_failing h_past h_aside h_best h_tried h_kept h_keptPast h_sheets h_kinds_0 h_kinds_1 h_kinds_2 h_kinds_3 h_kinds_4 h_now_0 h_now_1 h_now_2 h_now_3 h_aside_0 h_aside_1 h_aside_2 h_aside_3 a2 a2_r : Nat) (sz : Nat) (taped : Int32) (reads : Int32) (undoMany : Int32) (keptMany : Int32) (isKept : Int32) (now : BT) (failing : Nat → Int32) (aside : BT) (rn : Nat) (rw : Nat → Int32) (p1 : Int32) (p3 : Int32) (p4 : Int32) (Q : Int32 → (BT × (Nat → Int32)) → Prop) (hw : wp_X0_isSo_B now failing aside rn rw p1 p3 p4 Q) : Met l yX0_isSo (ws_ yX0_isSo cX0_isSo 7 (some .boolean)) ({ frames := 8, cells := 0, slots := 0, locals := 202 } : Room) (va_Pc [.ref h, .int p1, .ref a2, .int p3, .int p4] (fun U => U.heap.size = sz ∧ va_P G.1 gCl [oc h 0 [.ref h_kinds, .ref h_now, .ref h_fault, .ref h_tape, .int taped, .int reads, .ref h_got, .ref h_failing, .ref h_past, .int undoMany, .ref h_aside, .ref h_best, .ref h_tried, .ref h_kept, .ref h_keptPast, .int keptMany, .int isKept, .ref h_sheets], ar G h_kinds 5 5 [h_kinds_0, h_kinds_1, h_kinds_2, h_kinds_3, h_kinds_4], oc h_kinds_0 1 [], oc h_kinds_1 2 [], oc h_kinds_2 3 [], oc h_kinds_3 4 [], oc h_kinds_4 5 [], oc h_now 6 [.ref h_now_0, .ref h_now_1, .ref h_now_2, .ref h_now_3, .int (mn now), .int (ma now), .int (yr now), .int (dw now)], ai G h_now_0 6 (kd now), ai G h_now_1 18 (pl now), ai G h_now_2 6 (lf now), ai G h_now_3 6 (se now), ai G h_failing 6 failing, oc h_aside 6 [.ref h_aside_0, .ref h_aside_1, .ref h_aside_2, .ref h_aside_3, .int (mn aside), .int (ma aside), .int (yr aside), .int (dw aside)], ai G h_aside_0 6 (kd aside), ai G h_aside_1 18 (pl aside), ai G h_aside_2 6 (lf aside), ai G h_aside_3 6 (se aside), oc a2 8 [.ref a2_r], ay G a2_r rn rw] U.heap ∧ gK G U ∧ va_D (fun _ => True) [oc h 0 [.ref h_kinds, .ref h_now, .ref h_fault, .ref h_tape, .int taped, .int reads, .ref h_got, .ref h_failing, .ref h_past, .int undoMany, .ref h_aside, .ref h_best, .ref h_tried, .ref h_kept, .ref h_keptPast, .int keptMany, .int isKept, .ref h_sheets], ar G h_kinds 5 5 [h_kinds_0, h_kinds_1, h_kinds_2, h_kinds_3, h_kinds_4], oc h_kinds_0 1 [], oc h_kinds_1 2 [], oc h_kinds_2 3 [], oc h_kinds_3 4 [], oc h_kinds_4 5 [], oc h_now 6 [.ref h_now_0, .ref h_now_1, .ref h_now_2, .ref h_now_3, .int (mn now), .int (ma now), .int (yr now), .int (dw now)], ai G h_now_0 6 (kd now), ai G h_now_1 18 (pl now), ai G h_now_2 6 (lf now), ai G h_now_3 6 (se now), ai G h_failing 6 failing, oc h_aside 6 [.ref h_aside_0, .ref h_aside_1, .ref h_aside_2, .ref h_aside_3, .int (mn aside), .int (ma aside), .int (yr aside), .int (dw aside)], ai G h_aside_0 6 (kd aside), ai G h_aside_1 18 (pl aside), ai G h_aside_2 6 (lf aside), ai G h_aside_3 6 (se aside), oc a2 8 [.ref a2_r], ay G a2_r rn rw])) ((fun A => (va_Qi (fun (r : Int32) (u : BT × (Nat → Int32)) => Q r u) (fun u t => va_P G.1 gCl [oc h 0 [.ref h_kinds, .ref h_now, .ref h_fault, .ref h_tape, .int taped, .int reads, .ref h_got, .ref h_failing, .ref h_past, .int undoMany, .ref h_aside, .ref h_best, .ref h_tried, .ref h_kept, .ref h_keptPast, .int keptMany, .int isKept, .ref h_sheets], ar G h_kinds 5 5 [h_kinds_0, h_kinds_1, h_kinds_2, h_kinds_3, h_kinds_4], oc h_kinds_0 1 [], oc h_kinds_1 2 [], oc h_kinds_2 3 [], oc h_kinds_3 4 [], oc h_kinds_4 5 [], oc h_now 6 [.ref h_now_0, .ref h_now_1, .ref h_now_2, .ref h_now_3, .int (mn u.1), .int (ma u.1), .int (yr u.1), .int (dw u.1)], ai G h_now_0 6 (kd u.1), ai G h_now_1 18 (pl u.1), ai G h_now_2 6 (lf u.1), ai G h_now_3 6 (se u.1), ai G h_failing 6 u.2, oc h_aside 6 [.ref h_aside_0, .ref h_aside_1, .ref h_aside_2, .ref h_aside_3, .int (mn aside), .int (ma aside), .int (yr aside), .int (dw aside)], ai G h_aside_0 6 (kd aside), ai G h_aside_1 18 (pl aside), ai G h_aside_2 6 (lf aside), ai G h_aside_3 6 (se aside), oc a2 8 [.ref a2_r], ay G a2_r rn rw] t.heap ∧ va_D A [oc h 0 [.ref h_kinds, .ref h_now, .ref h_fault, .ref h_tape, .int taped, .int reads, .ref h_got, .ref h_failing, .ref h_past, .int undoMany, .ref h_aside, .ref h_best, .ref h_tried, .ref h_kept, .ref h_keptPast, .int keptMany, .int isKept, .ref h_sheets], ar G h_kinds 5 5 [h_kinds_0, h_kinds_1, h_kinds_2, h_kinds_3, h_kinds_4], oc h_kinds_0 1 [], oc h_kinds_1 2 [], oc h_kinds_2 3 [], oc h_kinds_3 4 [], oc h_kinds_4 5 [], oc h_now 6 [.ref h_now_0, .ref h_now_1, .ref h_now_2, .ref h_now_3, .int (mn u.1), .int (ma u.1), .int (yr u.1), .int (dw u.1)], ai G h_now_0 6 (kd u.1), ai G h_now_1 18 (pl u.1), ai G h_now_2 6 (lf u.1), ai G h_now_3 6 (se u.1), ai G h_failing 6 u.2, oc h_aside 6 [.ref h_aside_0, .ref h_aside_1, .ref h_aside_2, .ref h_aside_3, .int (mn aside), .int (ma aside), .int (yr aside), .int (dw aside)], ai G h_aside_0 6 (kd aside), ai G h_aside_1 18 (pl aside), ai G h_aside_2 6 (lf aside), ai G h_aside_3 6 (se aside), oc a2 8 [.ref a2_r], ay G a2_r rn rw]) A)) (va_A [oc h 0 [.ref h_kinds, .ref h_now, .ref h_fault, .ref h_tape, .int taped, .int reads, .ref h_got, .ref h_failing, .ref h_past, .int undoMany, .ref h_aside, .ref h_best, .ref h_tried, .ref h_kept, .ref h_keptPast, .int keptMany, .int isKept, .ref h_sheets], ar G h_kinds 5 5 [h_kinds_0, h_kinds_1, h_kinds_2, h_kinds_3, h_kinds_4], oc h_kinds_0 1 [], oc h_kinds_1 2 [], oc h_kinds_2 3 [], oc h_kinds_3 4 [], oc h_kinds_4 5 [], oc h_now 6 [.ref h_now_0, .ref h_now_1, .ref h_now_2, .ref h_now_3, .int (mn now), .int (ma now), .int (yr now), .int (dw now)], ai G h_now_0 6 (kd now), ai G h_now_1 18 (pl now), ai G h_now_2 6 (lf now), ai G h_now_3 6 (se now), ai G h_failing 6 failing, oc h_aside 6 [.ref h_aside_0, .ref h_aside_1, .ref h_aside_2, .ref h_aside_3, .int (mn aside), .int (ma aside), .int (yr aside), .int (dw aside)], ai G h_aside_0 6 (kd aside), ai G h_aside_1 18 (pl aside), ai G h_aside_2 6 (lf aside), ai G h_aside_3 6 (se aside), oc a2 8 [.ref a2_r], ay G a2_r rn rw] sz)) 0 0 (va_A [oc h 0 [.ref h_kinds, .ref h_now, .ref h_fault, .ref h_tape, .int taped, .int reads, .ref h_got, .ref h_failing, .ref h_past, .int undoMany, .ref h_aside, .ref h_best, .ref h_tried, .ref h_kept, .ref h_keptPast, .int keptMany, .int isKept, .ref h_sheets], ar G h_kinds 5 5 [h_kinds_0, h_kinds_1, h_kinds_2, h_kinds_3, h_kinds_4], oc h_kinds_0 1 [], oc h_kinds_1 2 [], oc h_kinds_2 3 [], oc h_kinds_3 4 [], oc h_kinds_4 5 [], oc h_now 6 [.ref h_now_0, .ref h_now_1, .ref h_now_2, .ref h_now_3, .int (mn now), .int (ma now), .int (yr now), .int (dw now)], ai G h_now_0 6 (kd now), ai G h_now_1 18 (pl now), ai G h_now_2 6 (lf now), ai G h_now_3 6 (se now), ai G h_failing 6 failing, oc h_aside 6 [.ref h_aside_0, .ref h_aside_1, .ref h_aside_2, .ref h_aside_3, .int (mn aside), .int (ma aside), .int (yr aside), .int (dw aside)], ai G h_aside_0 6 (kd aside), ai G h_aside_1 18 (pl aside), ai G h_aside_2 6 (lf aside), ai G h_aside_3 6 (se aside), oc a2 8 [.ref a2_r], ay G a2_r rn rw] sz) := by
  refine Met.ofW (cc := cX0_isSo) (maxL := 7) (ret := (some .boolean)) (by decide) rfl ?_
  intro p e s m args below meth c s₁ B hml hv
  obtain ⟨rfl, hsz, hP, hK, hD0⟩ := hv
  have hx := B.exec
  have hb := B.bytes
  have hr := B.returns
  have hts := atoms_spec (ws := (ws_ yX0_isSo cX0_isSo 7 (some .boolean))) B.pre
  have hts : ∀ w ∈ lw_all, w.before _ s = true := fun w h => hts w (List.mem_cons_of_mem _ h)
  have hown : s.vm.findClass RX0 = some m.cls := findClass_of_methodNamed B.named
  have hlocks := B.notSynchronized
  subst hsz
  have hD := hD0.self (sz := s.heap.size)
  generalize hAe : va_A [oc h 0 [.ref h_kinds, .ref h_now, .ref h_fault, .ref h_tape, .int taped, .int reads, .ref h_got, .ref h_failing, .ref h_past, .int undoMany, .ref h_aside, .ref h_best, .ref h_tried, .ref h_kept, .ref h_keptPast, .int keptMany, .int isKept, .ref h_sheets], ar G h_kinds 5 5 [h_kinds_0, h_kinds_1, h_kinds_2, h_kinds_3, h_kinds_4], oc h_kinds_0 1 [], oc h_kinds_1 2 [], oc h_kinds_2 3 [], oc h_kinds_3 4 [], oc h_kinds_4 5 [], oc h_now 6 [.ref h_now_0, .ref h_now_1, .ref h_now_2, .ref h_now_3, .int (mn now), .int (ma now), .int (yr now), .int (dw now)], ai G h_now_0 6 (kd now), ai G h_now_1 18 (pl now), ai G h_now_2 6 (lf now), ai G h_now_3 6 (se now), ai G h_failing 6 failing, oc h_aside 6 [.ref h_aside_0, .ref h_aside_1, .ref h_aside_2, .ref h_aside_3, .int (mn aside), .int (ma aside), .int (yr aside), .int (dw aside)], ai G h_aside_0 6 (kd aside), ai G h_aside_1 18 (pl aside), ai G h_aside_2 6 (lf aside), ai G h_aside_3 6 (se aside), oc a2 8 [.ref a2_r], ay G a2_r rn rw] s.heap.size = A at hD ⊢
  have hA : ∀ q : Nat, s.heap.size ≤ q → A q := fun q h => by rw [← hAe]; exact Or.inr h
  have hS : va_S A s.heap s.heap [] := va_S.rf
  have C : Cx p s m meth c cX0_isSo 7 (some .boolean) RX0 ([.ref h, .int p1, .ref a2, .int p3, .int p4] : List Value).toArray G A := ⟨hx, hb, hr, hlocks, hml, hown, hts, hK, hA⟩
  have hl := lv_entry ([.ref h, .int p1, .ref a2, .int p3, .int p4]) (n := 7) (Nat.le_of_ble_eq_true rfl)
  rw [lg_entry_eq]
  generalize (lg_sl ([.ref h, .int p1, .ref a2, .int p3, .int p4]) ++ List.replicate (7 - (lg_sl ([.ref h, .int p1, .ref a2, .int p3, .int p4])).length) Slot.unset).toArray = ls at hl ⊢
  have hl : lv_has ls 7 [(0, .ref h), (1, .int p1), (2, .ref a2), (3, .int p3), (4, .int p4)] := hl
  unfold wp_X0_isSo_B at hw
  refine lv_iconst (v := (1 : Int32)) hx hb dX0_isSo_0 (by decide) ?_
  refine lv_istore (lv' := [(5, .int (1 : Int32)), (0, .ref h), (1, .int p1), (2, .ref a2), (3, .int p3), (4, .int p4)]) hx hb dX0_isSo_1 hl (by decide) rfl (fun ls hl => ?_)
  refine lv_iconst (v := (0 : Int32)) hx hb dX0_isSo_3 (by decide) ?_
  refine lv_istore (lv' := [(6, .int (0 : Int32)), (5, .int (1 : Int32)), (0, .ref h), (1, .int p1), (2, .ref a2), (3, .int p3), (4, .int p4)]) hx hb dX0_isSo_4 hl (by decide) rfl (fun ls hl => ?_)
  obtain ⟨j_, hw⟩ := hw
  exact wk_X0_isSo_B_6 h h_kinds h_now h_fault h_tape h_got h_failing h_past h_aside h_best h_tried h_kept h_keptPast h_sheets h_kinds_0 h_kinds_1 h_kinds_2 h_kinds_3 h_kinds_4 h_now_0 h_now_1 h_now_2 h_now_3 h_aside_0 h_aside_1 h_aside_2 h_aside_3 a2 a2_r taped reads undoMany keptMany isKept aside rn rw p1 p3 p4  Q  C  j_ now failing (1 : Int32) (0 : Int32) s.heap [] hP hD hS ls (lv_sub hl [2, 3, 4, 5, 6, 1, 0] rfl) hw
/-! BattleBench.kindsBy(ILBattleBench$Sheet;II)I -/
def wp_X0_kindsBy_B_6 (aside : BT) (rn : Nat) (rw : Nat → Int32) (p1 : Int32) (p3 : Int32) (p4 : Int32) (Q : Int32 → (BT × (Nat → Int32)) → Prop)  : Nat → BT → (Nat → Int32) → Int32 → Int32 → Prop
  | 0, _, _, _, _ => False
  | n + 1, now, failing, x5, x6 =>
    ((((5 : Int32) ≤ x6) → Q x5 (now, failing)) ∧ (¬ ((5 : Int32) ≤ x6) → (vp_in p1 6 ∧ ∀ f_3 : Nat → Int32, f_3 = upd (kd now) p1.toNatClampNeg x6 → wp_X0_isSo_B (f_3, (pl now), (lf now), (se now), (mn now), (ma now), (yr now), (dw now)) failing aside rn rw p1 p3 p4 (fun r_4 u_5 => (((r_4 = 0) → (∀ v_7 : Int32, v_7 = (x5 ||| (0 : Int32)) → wp_X0_kindsBy_B_6 aside rn rw p1 p3 p4 Q  n u_5.1 u_5.2 v_7 (x6 + (1 : Int32)))) ∧ (¬ (r_4 = 0) → (∀ v_8 : Int32, v_8 = (x5 ||| ((1 : Int32) <<< (x6 &&& 31))) → wp_X0_kindsBy_B_6 aside rn rw p1 p3 p4 Q  n u_5.1 u_5.2 v_8 (x6 + (1 : Int32)))))))))
set_option maxHeartbeats 4000000 in
theorem wk_X0_kindsBy_B_6 {p : Program} {l : Launch} {e : Env} {s : State} {m : MethodId} {below : List Frame} {meth : Method} {c : Code} {args : Array Value} {G : GT} {A : Nat → Prop} (h h_kinds h_now h_fault h_tape h_got h_failing h_past h_aside h_best h_tried h_kept h_keptPast h_sheets h_kinds_0 h_kinds_1 h_kinds_2 h_kinds_3 h_kinds_4 h_now_0 h_now_1 h_now_2 h_now_3 h_aside_0 h_aside_1 h_aside_2 h_aside_3 a2 a2_r : Nat) (taped : Int32) (reads : Int32) (undoMany : Int32) (keptMany : Int32) (isKept : Int32) (aside : BT) (rn : Nat) (rw : Nat → Int32) (p1 : Int32) (p3 : Int32) (p4 : Int32) (Q : Int32 → (BT × (Nat → Int32)) → Prop)  (C : Cx p s m meth c cX0_kindsBy 7 (some .int) RX0 args G A)  :
    ∀ (n : Nat), ∀  (now : BT) (failing : Nat → Int32) (x5 : Int32) (x6 : Int32) (H : Heap) (locs : List Loc), va_P G.1 gCl [oc h 0 [.ref h_kinds, .ref h_now, .ref h_fault, .ref h_tape, .int taped, .int reads, .ref h_got, .ref h_failing, .ref h_past, .int undoMany, .ref h_aside, .ref h_best, .ref h_tried, .ref h_kept, .ref h_keptPast, .int keptMany, .int isKept, .ref h_sheets], ar G h_kinds 5 5 [h_kinds_0, h_kinds_1, h_kinds_2, h_kinds_3, h_kinds_4], oc h_kinds_0 1 [], oc h_kinds_1 2 [], oc h_kinds_2 3 [], oc h_kinds_3 4 [], oc h_kinds_4 5 [], oc h_now 6 [.ref h_now_0, .ref h_now_1, .ref h_now_2, .ref h_now_3, .int (mn now), .int (ma now), .int (yr now), .int (dw now)], ai G h_now_0 6 (kd now), ai G h_now_1 18 (pl now), ai G h_now_2 6 (lf now), ai G h_now_3 6 (se now), ai G h_failing 6 failing, oc h_aside 6 [.ref h_aside_0, .ref h_aside_1, .ref h_aside_2, .ref h_aside_3, .int (mn aside), .int (ma aside), .int (yr aside), .int (dw aside)], ai G h_aside_0 6 (kd aside), ai G h_aside_1 18 (pl aside), ai G h_aside_2 6 (lf aside), ai G h_aside_3 6 (se aside), oc a2 8 [.ref a2_r], ay G a2_r rn rw] H → va_D A [oc h 0 [.ref h_kinds, .ref h_now, .ref h_fault, .ref h_tape, .int taped, .int reads, .ref h_got, .ref h_failing, .ref h_past, .int undoMany, .ref h_aside, .ref h_best, .ref h_tried, .ref h_kept, .ref h_keptPast, .int keptMany, .int isKept, .ref h_sheets], ar G h_kinds 5 5 [h_kinds_0, h_kinds_1, h_kinds_2, h_kinds_3, h_kinds_4], oc h_kinds_0 1 [], oc h_kinds_1 2 [], oc h_kinds_2 3 [], oc h_kinds_3 4 [], oc h_kinds_4 5 [], oc h_now 6 [.ref h_now_0, .ref h_now_1, .ref h_now_2, .ref h_now_3, .int (mn now), .int (ma now), .int (yr now), .int (dw now)], ai G h_now_0 6 (kd now), ai G h_now_1 18 (pl now), ai G h_now_2 6 (lf now), ai G h_now_3 6 (se now), ai G h_failing 6 failing, oc h_aside 6 [.ref h_aside_0, .ref h_aside_1, .ref h_aside_2, .ref h_aside_3, .int (mn aside), .int (ma aside), .int (yr aside), .int (dw aside)], ai G h_aside_0 6 (kd aside), ai G h_aside_1 18 (pl aside), ai G h_aside_2 6 (lf aside), ai G h_aside_3 6 (se aside), oc a2 8 [.ref a2_r], ay G a2_r rn rw] → va_S A s.heap H locs → ∀ (ls : Array Slot), lv_has ls 7 [(0, .ref h), (1, .int p1), (2, .ref a2), (3, .int p3), (4, .int p4), (5, .int x5), (6, .int x6)] → wp_X0_kindsBy_B_6 aside rn rw p1 p3 p4 Q  n now failing x5 x6 → W p l e ({ frames := 9, cells := 0, slots := 0, locals := 228 } : Room) s m args below meth c H locs 0 0 (MQ below (va_Qi (fun (r : Int32) (u : BT × (Nat → Int32)) => Q r u) (fun u t => va_P G.1 gCl [oc h 0 [.ref h_kinds, .ref h_now, .ref h_fault, .ref h_tape, .int taped, .int reads, .ref h_got, .ref h_failing, .ref h_past, .int undoMany, .ref h_aside, .ref h_best, .ref h_tried, .ref h_kept, .ref h_keptPast, .int keptMany, .int isKept, .ref h_sheets], ar G h_kinds 5 5 [h_kinds_0, h_kinds_1, h_kinds_2, h_kinds_3, h_kinds_4], oc h_kinds_0 1 [], oc h_kinds_1 2 [], oc h_kinds_2 3 [], oc h_kinds_3 4 [], oc h_kinds_4 5 [], oc h_now 6 [.ref h_now_0, .ref h_now_1, .ref h_now_2, .ref h_now_3, .int (mn u.1), .int (ma u.1), .int (yr u.1), .int (dw u.1)], ai G h_now_0 6 (kd u.1), ai G h_now_1 18 (pl u.1), ai G h_now_2 6 (lf u.1), ai G h_now_3 6 (se u.1), ai G h_failing 6 u.2, oc h_aside 6 [.ref h_aside_0, .ref h_aside_1, .ref h_aside_2, .ref h_aside_3, .int (mn aside), .int (ma aside), .int (yr aside), .int (dw aside)], ai G h_aside_0 6 (kd aside), ai G h_aside_1 18 (pl aside), ai G h_aside_2 6 (lf aside), ai G h_aside_3 6 (se aside), oc a2 8 [.ref a2_r], ay G a2_r rn rw] t.heap ∧ va_D A [oc h 0 [.ref h_kinds, .ref h_now, .ref h_fault, .ref h_tape, .int taped, .int reads, .ref h_got, .ref h_failing, .ref h_past, .int undoMany, .ref h_aside, .ref h_best, .ref h_tried, .ref h_kept, .ref h_keptPast, .int keptMany, .int isKept, .ref h_sheets], ar G h_kinds 5 5 [h_kinds_0, h_kinds_1, h_kinds_2, h_kinds_3, h_kinds_4], oc h_kinds_0 1 [], oc h_kinds_1 2 [], oc h_kinds_2 3 [], oc h_kinds_3 4 [], oc h_kinds_4 5 [], oc h_now 6 [.ref h_now_0, .ref h_now_1, .ref h_now_2, .ref h_now_3, .int (mn u.1), .int (ma u.1), .int (yr u.1), .int (dw u.1)], ai G h_now_0 6 (kd u.1), ai G h_now_1 18 (pl u.1), ai G h_now_2 6 (lf u.1), ai G h_now_3 6 (se u.1), ai G h_failing 6 u.2, oc h_aside 6 [.ref h_aside_0, .ref h_aside_1, .ref h_aside_2, .ref h_aside_3, .int (mn aside), .int (ma aside), .int (yr aside), .int (dw aside)], ai G h_aside_0 6 (kd aside), ai G h_aside_1 18 (pl aside), ai G h_aside_2 6 (lf aside), ai G h_aside_3 6 (se aside), oc a2 8 [.ref a2_r], ay G a2_r rn rw]) A) args s 0 0 A) (F0 m 6 ls []) := by
  have C9 := C
  obtain ⟨hx, hb, hr, hlocks, hml, hown, hts, hK, hA⟩ := C9
  intro n
  induction n with
  | zero => intro now failing x5 x6 H locs hP hD hS ls hl hw; exact False.elim hw
  | succ n ih =>
    intro now failing x5 x6 H locs hP hD hS ls hl hw
    unfold wp_X0_kindsBy_B_6 at hw
    refine lv_iload hx hb dX0_kindsBy_6 (lv_at hl 6 rfl) ?_
    refine lv_iconst (v := (5 : Int32)) hx hb dX0_kindsBy_8 (by decide) ?_
    refine lv_icmp_ge (tgt := 54) hx hb dX0_kindsBy_9 (by decide) (fun c_1 => ?_) (fun c_1 => ?_)
    · replace hw := hw.1 c_1
      refine lv_iload hx hb dX0_kindsBy_54 (lv_at hl 5 rfl) ?_
      have hP9 := hP
      have hD9 := hD
      exact W.iret (v := x5) hx hb hr (fun t ht hW => ⟨⟨x5, (now, failing), rfl, hw, by rw [ht]; exact hP9, hD9⟩, hS.F ht⟩) hS.2.2 dX0_kindsBy_56
    · replace hw := hw.2 c_1
      refine lv_aload_n hx hb dX0_kindsBy_12 rfl (lv_at hl 0 rfl) ?_
      refine va_get (D := G.1) (ci := 0) (v := .ref h_now) (C := RX0) (T := TX0) (N := 18) hx hb hts in_X0 hown hK.1 hP 0 rfl rfl 1 (by decide) (hts _ q257) (fun _ h9 => h9) rfl dX0_kindsBy_13 ?_
      refine va_getN (D := G.1) (ci := 6) (v := .ref h_now_0) (C := RX6) (T := TX6) (N := 8) hx hb hts in_X6 hown hK.1 hP 7 rfl rfl 0 (by decide) (hK.n q128 rfl) (fun _ h9 => h9) rfl dX0_kindsBy_16 ?_
      refine lv_iload_n hx hb dX0_kindsBy_19 rfl (lv_at hl 1 rfl) ?_
      refine lv_iload hx hb dX0_kindsBy_20 (lv_at hl 6 rfl) ?_
      obtain ⟨i_2, hw⟩ := hw
      refine z_iast hx hb hK.1 hP hD hS 8 0 rfl rfl i_2 dX0_kindsBy_22 (k := p1.toNatClampNeg) rfl (fun f_3 ef_3 H locs hP hD hS => ?_)
      replace hw := hw f_3 ef_3
      have hP : va_P G.1 gCl [oc h 0 [.ref h_kinds, .ref h_now, .ref h_fault, .ref h_tape, .int taped, .int reads, .ref h_got, .ref h_failing, .ref h_past, .int undoMany, .ref h_aside, .ref h_best, .ref h_tried, .ref h_kept, .ref h_keptPast, .int keptMany, .int isKept, .ref h_sheets], ar G h_kinds 5 5 [h_kinds_0, h_kinds_1, h_kinds_2, h_kinds_3, h_kinds_4], oc h_kinds_0 1 [], oc h_kinds_1 2 [], oc h_kinds_2 3 [], oc h_kinds_3 4 [], oc h_kinds_4 5 [], oc h_now 6 [.ref h_now_0, .ref h_now_1, .ref h_now_2, .ref h_now_3, .int (mn now), .int (ma now), .int (yr now), .int (dw now)], ai G h_now_0 6 f_3, ai G h_now_1 18 (pl now), ai G h_now_2 6 (lf now), ai G h_now_3 6 (se now), ai G h_failing 6 failing, oc h_aside 6 [.ref h_aside_0, .ref h_aside_1, .ref h_aside_2, .ref h_aside_3, .int (mn aside), .int (ma aside), .int (yr aside), .int (dw aside)], ai G h_aside_0 6 (kd aside), ai G h_aside_1 18 (pl aside), ai G h_aside_2 6 (lf aside), ai G h_aside_3 6 (se aside), oc a2 8 [.ref a2_r], ay G a2_r rn rw] H := hP
      have hD : va_D A [oc h 0 [.ref h_kinds, .ref h_now, .ref h_fault, .ref h_tape, .int taped, .int reads, .ref h_got, .ref h_failing, .ref h_past, .int undoMany, .ref h_aside, .ref h_best, .ref h_tried, .ref h_kept, .ref h_keptPast, .int keptMany, .int isKept, .ref h_sheets], ar G h_kinds 5 5 [h_kinds_0, h_kinds_1, h_kinds_2, h_kinds_3, h_kinds_4], oc h_kinds_0 1 [], oc h_kinds_1 2 [], oc h_kinds_2 3 [], oc h_kinds_3 4 [], oc h_kinds_4 5 [], oc h_now 6 [.ref h_now_0, .ref h_now_1, .ref h_now_2, .ref h_now_3, .int (mn now), .int (ma now), .int (yr now), .int (dw now)], ai G h_now_0 6 f_3, ai G h_now_1 18 (pl now), ai G h_now_2 6 (lf now), ai G h_now_3 6 (se now), ai G h_failing 6 failing, oc h_aside 6 [.ref h_aside_0, .ref h_aside_1, .ref h_aside_2, .ref h_aside_3, .int (mn aside), .int (ma aside), .int (yr aside), .int (dw aside)], ai G h_aside_0 6 (kd aside), ai G h_aside_1 18 (pl aside), ai G h_aside_2 6 (lf aside), ai G h_aside_3 6 (se aside), oc a2 8 [.ref a2_r], ay G a2_r rn rw] := hD
      refine lv_iload hx hb dX0_kindsBy_23 (lv_at hl 5 rfl) ?_
      refine lv_aload_n hx hb dX0_kindsBy_25 rfl (lv_at hl 0 rfl) ?_
      refine lv_iload_n hx hb dX0_kindsBy_26 rfl (lv_at hl 1 rfl) ?_
      refine lv_aload_n hx hb dX0_kindsBy_27 rfl (lv_at hl 2 rfl) ?_
      refine lv_iload_n hx hb dX0_kindsBy_28 rfl (lv_at hl 3 rfl) ?_
      refine lv_iload hx hb dX0_kindsBy_29 (lv_at hl 4 rfl) ?_
      have hPc := hP.sub (ws' := [oc h 0 [.ref h_kinds, .ref h_now, .ref h_fault, .ref h_tape, .int taped, .int reads, .ref h_got, .ref h_failing, .ref h_past, .int undoMany, .ref h_aside, .ref h_best, .ref h_tried, .ref h_kept, .ref h_keptPast, .int keptMany, .int isKept, .ref h_sheets], ar G h_kinds 5 5 [h_kinds_0, h_kinds_1, h_kinds_2, h_kinds_3, h_kinds_4], oc h_kinds_0 1 [], oc h_kinds_1 2 [], oc h_kinds_2 3 [], oc h_kinds_3 4 [], oc h_kinds_4 5 [], oc h_now 6 [.ref h_now_0, .ref h_now_1, .ref h_now_2, .ref h_now_3, .int (mn now), .int (ma now), .int (yr now), .int (dw now)], ai G h_now_0 6 f_3, ai G h_now_1 18 (pl now), ai G h_now_2 6 (lf now), ai G h_now_3 6 (se now), ai G h_failing 6 failing, oc h_aside 6 [.ref h_aside_0, .ref h_aside_1, .ref h_aside_2, .ref h_aside_3, .int (mn aside), .int (ma aside), .int (yr aside), .int (dw aside)], ai G h_aside_0 6 (kd aside), ai G h_aside_1 18 (pl aside), ai G h_aside_2 6 (lf aside), ai G h_aside_3 6 (se aside), oc a2 8 [.ref a2_r], ay G a2_r rn rw]) [0, 1, 2, 3, 4, 5, 6, 7, 8, 9, 10, 11, 12, 13, 14, 15, 16, 17, 18, 19] rfl
      have hDc := hD.sub (ws' := [oc h 0 [.ref h_kinds, .ref h_now, .ref h_fault, .ref h_tape, .int taped, .int reads, .ref h_got, .ref h_failing, .ref h_past, .int undoMany, .ref h_aside, .ref h_best, .ref h_tried, .ref h_kept, .ref h_keptPast, .int keptMany, .int isKept, .ref h_sheets], ar G h_kinds 5 5 [h_kinds_0, h_kinds_1, h_kinds_2, h_kinds_3, h_kinds_4], oc h_kinds_0 1 [], oc h_kinds_1 2 [], oc h_kinds_2 3 [], oc h_kinds_3 4 [], oc h_kinds_4 5 [], oc h_now 6 [.ref h_now_0, .ref h_now_1, .ref h_now_2, .ref h_now_3, .int (mn now), .int (ma now), .int (yr now), .int (dw now)], ai G h_now_0 6 f_3, ai G h_now_1 18 (pl now), ai G h_now_2 6 (lf now), ai G h_now_3 6 (se now), ai G h_failing 6 failing, oc h_aside 6 [.ref h_aside_0, .ref h_aside_1, .ref h_aside_2, .ref h_aside_3, .int (mn aside), .int (ma aside), .int (yr aside), .int (dw aside)], ai G h_aside_0 6 (kd aside), ai G h_aside_1 18 (pl aside), ai G h_aside_2 6 (lf aside), ai G h_aside_3 6 (se aside), oc a2 8 [.ref a2_r], ay G a2_r rn rw]) [0, 1, 2, 3, 4, 5, 6, 7, 8, 9, 10, 11, 12, 13, 14, 15, 16, 17, 18, 19] (by decide) rfl
      have hFc := va_free (wc := [oc h 0 [.ref h_kinds, .ref h_now, .ref h_fault, .ref h_tape, .int taped, .int reads, .ref h_got, .ref h_failing, .ref h_past, .int undoMany, .ref h_aside, .ref h_best, .ref h_tried, .ref h_kept, .ref h_keptPast, .int keptMany, .int isKept, .ref h_sheets], ar G h_kinds 5 5 [h_kinds_0, h_kinds_1, h_kinds_2, h_kinds_3, h_kinds_4], oc h_kinds_0 1 [], oc h_kinds_1 2 [], oc h_kinds_2 3 [], oc h_kinds_3 4 [], oc h_kinds_4 5 [], oc h_now 6 [.ref h_now_0, .ref h_now_1, .ref h_now_2, .ref h_now_3, .int (mn now), .int (ma now), .int (yr now), .int (dw now)], ai G h_now_0 6 f_3, ai G h_now_1 18 (pl now), ai G h_now_2 6 (lf now), ai G h_now_3 6 (se now), ai G h_failing 6 failing, oc h_aside 6 [.ref h_aside_0, .ref h_aside_1, .ref h_aside_2, .ref h_aside_3, .int (mn aside), .int (ma aside), .int (yr aside), .int (dw aside)], ai G h_aside_0 6 (kd aside), ai G h_aside_1 18 (pl aside), ai G h_aside_2 6 (lf aside), ai G h_aside_3 6 (se aside), oc a2 8 [.ref a2_r], ay G a2_r rn rw]) hD hS hA [0, 1, 2, 3, 4, 5, 6, 7, 8, 9, 10, 11, 12, 13, 14, 15, 16, 17, 18, 19] rfl
      refine va_calli (va_runV (As := [.int p1, .ref a2, .int p3, .int p4]) (rest := [.int x5]) ⟨hx, hb, hml, hown, hts⟩ (mt_X0_isSo_B l G h h_kinds h_now h_fault h_tape h_got h_failing h_past h_aside h_best h_tried h_kept h_keptPast h_sheets h_kinds_0 h_kinds_1 h_kinds_2 h_kinds_3 h_kinds_4 h_now_0 h_now_1 h_now_2 h_now_3 h_aside_0 h_aside_1 h_aside_2 h_aside_3 a2 a2_r H.size taped reads undoMany keptMany isKept (f_3, (pl now), (lf now), (se now), (mn now), (ma now), (yr now), (dw now)) failing aside rn rw p1 p3 p4 _ hw) (cwV 4 hts (lw_V q673 q675 qs25 q54 q676) rfl rfl rfl (by decide +kernel) ⟨Nat.le_of_ble_eq_true rfl, Nat.le_of_ble_eq_true rfl⟩) ⟨fun a U g mk q => by obtain ⟨q0, q1, qP, qK, qD⟩ := q; exact ⟨q0, q1, qP, qK.call, qD⟩, va_recv hK.1 hP (ci := 0) (q0 := 0) rfl rfl, fun U hU hW => ⟨rfl, by rw [hU], by rw [hU]; exact hPc, hK.warm hW, hDc.weaken (fun _ _ _ _ => trivial)⟩⟩ rfl rfl hl.1 rfl (lv_room (Nat.le_of_ble_eq_true rfl)) dX0_kindsBy_31 ⟨Nat.le_of_ble_eq_true rfl, Nat.le_of_ble_eq_true rfl⟩) hS (fun q _ h => hFc q h) hFc (fun r_4 u_5 t H1 locs ht hvm hw hB hz1 hk1 hS => ?_)
      obtain ⟨hP1, hD1⟩ := hB
      rw [ht] at hP1
      obtain ⟨hP, hD⟩ := va_join (wr := []) (w1 := [oc h 0 [.ref h_kinds, .ref h_now, .ref h_fault, .ref h_tape, .int taped, .int reads, .ref h_got, .ref h_failing, .ref h_past, .int undoMany, .ref h_aside, .ref h_best, .ref h_tried, .ref h_kept, .ref h_keptPast, .int keptMany, .int isKept, .ref h_sheets], ar G h_kinds 5 5 [h_kinds_0, h_kinds_1, h_kinds_2, h_kinds_3, h_kinds_4], oc h_kinds_0 1 [], oc h_kinds_1 2 [], oc h_kinds_2 3 [], oc h_kinds_3 4 [], oc h_kinds_4 5 [], oc h_now 6 [.ref h_now_0, .ref h_now_1, .ref h_now_2, .ref h_now_3, .int (mn u_5.1), .int (ma u_5.1), .int (yr u_5.1), .int (dw u_5.1)], ai G h_now_0 6 (kd u_5.1), ai G h_now_1 18 (pl u_5.1), ai G h_now_2 6 (lf u_5.1), ai G h_now_3 6 (se u_5.1), ai G h_failing 6 u_5.2, oc h_aside 6 [.ref h_aside_0, .ref h_aside_1, .ref h_aside_2, .ref h_aside_3, .int (mn aside), .int (ma aside), .int (yr aside), .int (dw aside)], ai G h_aside_0 6 (kd aside), ai G h_aside_1 18 (pl aside), ai G h_aside_2 6 (lf aside), ai G h_aside_3 6 (se aside), oc a2 8 [.ref a2_r], ay G a2_r rn rw]) hP hD [0, 1, 2, 3, 4, 5, 6, 7, 8, 9, 10, 11, 12, 13, 14, 15, 16, 17, 18, 19] [] rfl rfl (by decide) (by decide) hk1 hFc hP1 hD1
      clear hPc hDc hFc hP1 hD1 hz1 hk1 hvm
      generalize H1 = H at hP hS ⊢
      have hP : va_P G.1 gCl [oc h 0 [.ref h_kinds, .ref h_now, .ref h_fault, .ref h_tape, .int taped, .int reads, .ref h_got, .ref h_failing, .ref h_past, .int undoMany, .ref h_aside, .ref h_best, .ref h_tried, .ref h_kept, .ref h_keptPast, .int keptMany, .int isKept, .ref h_sheets], ar G h_kinds 5 5 [h_kinds_0, h_kinds_1, h_kinds_2, h_kinds_3, h_kinds_4], oc h_kinds_0 1 [], oc h_kinds_1 2 [], oc h_kinds_2 3 [], oc h_kinds_3 4 [], oc h_kinds_4 5 [], oc h_now 6 [.ref h_now_0, .ref h_now_1, .ref h_now_2, .ref h_now_3, .int (mn u_5.1), .int (ma u_5.1), .int (yr u_5.1), .int (dw u_5.1)], ai G h_now_0 6 (kd u_5.1), ai G h_now_1 18 (pl u_5.1), ai G h_now_2 6 (lf u_5.1), ai G h_now_3 6 (se u_5.1), ai G h_failing 6 u_5.2, oc h_aside 6 [.ref h_aside_0, .ref h_aside_1, .ref h_aside_2, .ref h_aside_3, .int (mn aside), .int (ma aside), .int (yr aside), .int (dw aside)], ai G h_aside_0 6 (kd aside), ai G h_aside_1 18 (pl aside), ai G h_aside_2 6 (lf aside), ai G h_aside_3 6 (se aside), oc a2 8 [.ref a2_r], ay G a2_r rn rw] H := hP
      have hD : va_D A [oc h 0 [.ref h_kinds, .ref h_now, .ref h_fault, .ref h_tape, .int taped, .int reads, .ref h_got, .ref h_failing, .ref h_past, .int undoMany, .ref h_aside, .ref h_best, .ref h_tried, .ref h_kept, .ref h_keptPast, .int keptMany, .int isKept, .ref h_sheets], ar G h_kinds 5 5 [h_kinds_0, h_kinds_1, h_kinds_2, h_kinds_3, h_kinds_4], oc h_kinds_0 1 [], oc h_kinds_1 2 [], oc h_kinds_2 3 [], oc h_kinds_3 4 [], oc h_kinds_4 5 [], oc h_now 6 [.ref h_now_0, .ref h_now_1, .ref h_now_2, .ref h_now_3, .int (mn u_5.1), .int (ma u_5.1), .int (yr u_5.1), .int (dw u_5.1)], ai G h_now_0 6 (kd u_5.1), ai G h_now_1 18 (pl u_5.1), ai G h_now_2 6 (lf u_5.1), ai G h_now_3 6 (se u_5.1), ai G h_failing 6 u_5.2, oc h_aside 6 [.ref h_aside_0, .ref h_aside_1, .ref h_aside_2, .ref h_aside_3, .int (mn aside), .int (ma aside), .int (yr aside), .int (dw aside)], ai G h_aside_0 6 (kd aside), ai G h_aside_1 18 (pl aside), ai G h_aside_2 6 (lf aside), ai G h_aside_3 6 (se aside), oc a2 8 [.ref a2_r], ay G a2_r rn rw] := hD
      refine lv_if_eq (tgt := 44) hx hb dX0_kindsBy_34 (by decide) (fun c_6 => ?_) (fun c_6 => ?_)
      · replace hw := hw.1 c_6
        refine lv_iconst (v := (0 : Int32)) hx hb dX0_kindsBy_44 (by decide) ?_
        refine lv_ior hx hb dX0_kindsBy_45 ?_
        refine lv_topi (fun v_7 ev_7 => ?_)
        replace hw := hw v_7 ev_7
        refine lv_istore (lv' := [(5, .int v_7), (0, .ref h), (1, .int p1), (2, .ref a2), (3, .int p3), (4, .int p4), (6, .int x6)]) hx hb dX0_kindsBy_46 hl (by decide) rfl (fun ls hl => ?_)
        refine lv_iinc (v := (x6 + (1 : Int32))) (lv' := [(6, .int (x6 + (1 : Int32))), (5, .int v_7), (0, .ref h), (1, .int p1), (2, .ref a2), (3, .int p3), (4, .int p4)]) hx hb dX0_kindsBy_48 hl (k := 6) rfl rfl (by decide) rfl (fun ls hl => ?_)
        refine lv_goto (tgt := 6) hx hb dX0_kindsBy_51 (by decide) ?_
        exact ih u_5.1 u_5.2 v_7 (x6 + (1 : Int32)) H locs hP hD hS ls (lv_sub hl [2, 3, 4, 5, 6, 1, 0] rfl) hw
      · replace hw := hw.2 c_6
        refine lv_iconst (v := (1 : Int32)) hx hb dX0_kindsBy_37 (by decide) ?_
        refine lv_iload hx hb dX0_kindsBy_38 (lv_at hl 6 rfl) ?_
        refine lv_ishl hx hb dX0_kindsBy_40 ?_
        refine lv_goto (tgt := 45) hx hb dX0_kindsBy_41 (by decide) ?_
        refine lv_ior hx hb dX0_kindsBy_45 ?_
        refine lv_topi (fun v_8 ev_8 => ?_)
        replace hw := hw v_8 ev_8
        refine lv_istore (lv' := [(5, .int v_8), (0, .ref h), (1, .int p1), (2, .ref a2), (3, .int p3), (4, .int p4), (6, .int x6)]) hx hb dX0_kindsBy_46 hl (by decide) rfl (fun ls hl => ?_)
        refine lv_iinc (v := (x6 + (1 : Int32))) (lv' := [(6, .int (x6 + (1 : Int32))), (5, .int v_8), (0, .ref h), (1, .int p1), (2, .ref a2), (3, .int p3), (4, .int p4)]) hx hb dX0_kindsBy_48 hl (k := 6) rfl rfl (by decide) rfl (fun ls hl => ?_)
        refine lv_goto (tgt := 6) hx hb dX0_kindsBy_51 (by decide) ?_
        exact ih u_5.1 u_5.2 v_8 (x6 + (1 : Int32)) H locs hP hD hS ls (lv_sub hl [2, 3, 4, 5, 6, 1, 0] rfl) hw
def wp_X0_kindsBy_B (now : BT) (failing : Nat → Int32) (aside : BT) (rn : Nat) (rw : Nat → Int32) (p1 : Int32) (p3 : Int32) (p4 : Int32) (Q : Int32 → (BT × (Nat → Int32)) → Prop) : Prop :=
  (∃ j_ : Nat, wp_X0_kindsBy_B_6 aside rn rw p1 p3 p4 Q  j_ now failing (0 : Int32) (0 : Int32))
set_option maxHeartbeats 4000000 in
theorem mt_X0_kindsBy_B (l : Launch) (G : GT) (h h_kinds h_now h_fault h_tape h_got h_failing h_past h_aside h_best h_tried h_kept h_keptPast h_sheets h_kinds_0 h_kinds_1 h_kinds_2 h_kinds_3 h_kinds_4 h_now_0 h_now_1 h_now_2 h_now_3 h_aside_0 h_aside_1 h_aside_2 h_aside_3 a2 a2_r : Nat) (sz : Nat) (taped : Int32) (reads : Int32) (undoMany : Int32) (keptMany : Int32) (isKept : Int32) (now : BT) (failing : Nat → Int32) (aside : BT) (rn : Nat) (rw : Nat → Int32) (p1 : Int32) (p3 : Int32) (p4 : Int32) (Q : Int32 → (BT × (Nat → Int32)) → Prop) (hw : wp_X0_kindsBy_B now failing aside rn rw p1 p3 p4 Q) : Met l yX0_kindsBy (ws_ yX0_kindsBy cX0_kindsBy 7 (some .int)) ({ frames := 9, cells := 0, slots := 0, locals := 228 } : Room) (va_Pc [.ref h, .int p1, .ref a2, .int p3, .int p4] (fun U => U.heap.size = sz ∧ va_P G.1 gCl [oc h 0 [.ref h_kinds, .ref h_now, .ref h_fault, .ref h_tape, .int taped, .int reads, .ref h_got, .ref h_failing, .ref h_past, .int undoMany, .ref h_aside, .ref h_best, .ref h_tried, .ref h_kept, .ref h_keptPast, .int keptMany, .int isKept, .ref h_sheets], ar G h_kinds 5 5 [h_kinds_0, h_kinds_1, h_kinds_2, h_kinds_3, h_kinds_4], oc h_kinds_0 1 [], oc h_kinds_1 2 [], oc h_kinds_2 3 [], oc h_kinds_3 4 [], oc h_kinds_4 5 [], oc h_now 6 [.ref h_now_0, .ref h_now_1, .ref h_now_2, .ref h_now_3, .int (mn now), .int (ma now), .int (yr now), .int (dw now)], ai G h_now_0 6 (kd now), ai G h_now_1 18 (pl now), ai G h_now_2 6 (lf now), ai G h_now_3 6 (se now), ai G h_failing 6 failing, oc h_aside 6 [.ref h_aside_0, .ref h_aside_1, .ref h_aside_2, .ref h_aside_3, .int (mn aside), .int (ma aside), .int (yr aside), .int (dw aside)], ai G h_aside_0 6 (kd aside), ai G h_aside_1 18 (pl aside), ai G h_aside_2 6 (lf aside), ai G h_aside_3 6 (se aside), oc a2 8 [.ref a2_r], ay G a2_r rn rw] U.heap ∧ gK G U ∧ va_D (fun _ => True) [oc h 0 [.ref h_kinds, .ref h_now, .ref h_fault, .ref h_tape, .int taped, .int reads, .ref h_got, .ref h_failing, .ref h_past, .int undoMany, .ref h_aside, .ref h_best, .ref h_tried, .ref h_kept, .ref h_keptPast, .int keptMany, .int isKept, .ref h_sheets], ar G h_kinds 5 5 [h_kinds_0, h_kinds_1, h_kinds_2, h_kinds_3, h_kinds_4], oc h_kinds_0 1 [], oc h_kinds_1 2 [], oc h_kinds_2 3 [], oc h_kinds_3 4 [], oc h_kinds_4 5 [], oc h_now 6 [.ref h_now_0, .ref h_now_1, .ref h_now_2, .ref h_now_3, .int (mn now), .int (ma now), .int (yr now), .int (dw now)], ai G h_now_0 6 (kd now), ai G h_now_1 18 (pl now), ai G h_now_2 6 (lf now), ai G h_now_3 6 (se now), ai G h_failing 6 failing, oc h_aside 6 [.ref h_aside_0, .ref h_aside_1, .ref h_aside_2, .ref h_aside_3, .int (mn aside), .int (ma aside), .int (yr aside), .int (dw aside)], ai G h_aside_0 6 (kd aside), ai G h_aside_1 18 (pl aside), ai G h_aside_2 6 (lf aside), ai G h_aside_3 6 (se aside), oc a2 8 [.ref a2_r], ay G a2_r rn rw])) ((fun A => (va_Qi (fun (r : Int32) (u : BT × (Nat → Int32)) => Q r u) (fun u t => va_P G.1 gCl [oc h 0 [.ref h_kinds, .ref h_now, .ref h_fault, .ref h_tape, .int taped, .int reads, .ref h_got, .ref h_failing, .ref h_past, .int undoMany, .ref h_aside, .ref h_best, .ref h_tried, .ref h_kept, .ref h_keptPast, .int keptMany, .int isKept, .ref h_sheets], ar G h_kinds 5 5 [h_kinds_0, h_kinds_1, h_kinds_2, h_kinds_3, h_kinds_4], oc h_kinds_0 1 [], oc h_kinds_1 2 [], oc h_kinds_2 3 [], oc h_kinds_3 4 [], oc h_kinds_4 5 [], oc h_now 6 [.ref h_now_0, .ref h_now_1, .ref h_now_2, .ref h_now_3, .int (mn u.1), .int (ma u.1), .int (yr u.1), .int (dw u.1)], ai G h_now_0 6 (kd u.1), ai G h_now_1 18 (pl u.1), ai G h_now_2 6 (lf u.1), ai G h_now_3 6 (se u.1), ai G h_failing 6 u.2, oc h_aside 6 [.ref h_aside_0, .ref h_aside_1, .ref h_aside_2, .ref h_aside_3, .int (mn aside), .int (ma aside), .int (yr aside), .int (dw aside)], ai G h_aside_0 6 (kd aside), ai G h_aside_1 18 (pl aside), ai G h_aside_2 6 (lf aside), ai G h_aside_3 6 (se aside), oc a2 8 [.ref a2_r], ay G a2_r rn rw] t.heap ∧ va_D A [oc h 0 [.ref h_kinds, .ref h_now, .ref h_fault, .ref h_tape, .int taped, .int reads, .ref h_got, .ref h_failing, .ref h_past, .int undoMany, .ref h_aside, .ref h_best, .ref h_tried, .ref h_kept, .ref h_keptPast, .int keptMany, .int isKept, .ref h_sheets], ar G h_kinds 5 5 [h_kinds_0, h_kinds_1, h_kinds_2, h_kinds_3, h_kinds_4], oc h_kinds_0 1 [], oc h_kinds_1 2 [], oc h_kinds_2 3 [], oc h_kinds_3 4 [], oc h_kinds_4 5 [], oc h_now 6 [.ref h_now_0, .ref h_now_1, .ref h_now_2, .ref h_now_3, .int (mn u.1), .int (ma u.1), .int (yr u.1), .int (dw u.1)], ai G h_now_0 6 (kd u.1), ai G h_now_1 18 (pl u.1), ai G h_now_2 6 (lf u.1), ai G h_now_3 6 (se u.1), ai G h_failing 6 u.2, oc h_aside 6 [.ref h_aside_0, .ref h_aside_1, .ref h_aside_2, .ref h_aside_3, .int (mn aside), .int (ma aside), .int (yr aside), .int (dw aside)], ai G h_aside_0 6 (kd aside), ai G h_aside_1 18 (pl aside), ai G h_aside_2 6 (lf aside), ai G h_aside_3 6 (se aside), oc a2 8 [.ref a2_r], ay G a2_r rn rw]) A)) (va_A [oc h 0 [.ref h_kinds, .ref h_now, .ref h_fault, .ref h_tape, .int taped, .int reads, .ref h_got, .ref h_failing, .ref h_past, .int undoMany, .ref h_aside, .ref h_best, .ref h_tried, .ref h_kept, .ref h_keptPast, .int keptMany, .int isKept, .ref h_sheets], ar G h_kinds 5 5 [h_kinds_0, h_kinds_1, h_kinds_2, h_kinds_3, h_kinds_4], oc h_kinds_0 1 [], oc h_kinds_1 2 [], oc h_kinds_2 3 [], oc h_kinds_3 4 [], oc h_kinds_4 5 [], oc h_now 6 [.ref h_now_0, .ref h_now_1, .ref h_now_2, .ref h_now_3, .int (mn now), .int (ma now), .int (yr now), .int (dw now)], ai G h_now_0 6 (kd now), ai G h_now_1 18 (pl now), ai G h_now_2 6 (lf now), ai G h_now_3 6 (se now), ai G h_failing 6 failing, oc h_aside 6 [.ref h_aside_0, .ref h_aside_1, .ref h_aside_2, .ref h_aside_3, .int (mn aside), .int (ma aside), .int (yr aside), .int (dw aside)], ai G h_aside_0 6 (kd aside), ai G h_aside_1 18 (pl aside), ai G h_aside_2 6 (lf aside), ai G h_aside_3 6 (se aside), oc a2 8 [.ref a2_r], ay G a2_r rn rw] sz)) 0 0 (va_A [oc h 0 [.ref h_kinds, .ref h_now, .ref h_fault, .ref h_tape, .int taped, .int reads, .ref h_got, .ref h_failing, .ref h_past, .int undoMany, .ref h_aside, .ref h_best, .ref h_tried, .ref h_kept, .ref h_keptPast, .int keptMany, .int isKept, .ref h_sheets], ar G h_kinds 5 5 [h_kinds_0, h_kinds_1, h_kinds_2, h_kinds_3, h_kinds_4], oc h_kinds_0 1 [], oc h_kinds_1 2 [], oc h_kinds_2 3 [], oc h_kinds_3 4 [], oc h_kinds_4 5 [], oc h_now 6 [.ref h_now_0, .ref h_now_1, .ref h_now_2, .ref h_now_3, .int (mn now), .int (ma now), .int (yr now), .int (dw now)], ai G h_now_0 6 (kd now), ai G h_now_1 18 (pl now), ai G h_now_2 6 (lf now), ai G h_now_3 6 (se now), ai G h_failing 6 failing, oc h_aside 6 [.ref h_aside_0, .ref h_aside_1, .ref h_aside_2, .ref h_aside_3, .int (mn aside), .int (ma aside), .int (yr aside), .int (dw aside)], ai G h_aside_0 6 (kd aside), ai G h_aside_1 18 (pl aside), ai G h_aside_2 6 (lf aside), ai G h_aside_3 6 (se aside), oc a2 8 [.ref a2_r], ay G a2_r rn rw] sz) := by
  refine Met.ofW (cc := cX0_kindsBy) (maxL := 7) (ret := (some .int)) (by decide) rfl ?_
  intro p e s m args below meth c s₁ B hml hv
  obtain ⟨rfl, hsz, hP, hK, hD0⟩ := hv
  have hx := B.exec
  have hb := B.bytes
  have hr := B.returns
  have hts := atoms_spec (ws := (ws_ yX0_kindsBy cX0_kindsBy 7 (some .int))) B.pre
  have hts : ∀ w ∈ lw_all, w.before _ s = true := fun w h => hts w (List.mem_cons_of_mem _ h)
  have hown : s.vm.findClass RX0 = some m.cls := findClass_of_methodNamed B.named
  have hlocks := B.notSynchronized
  subst hsz
  have hD := hD0.self (sz := s.heap.size)
  generalize hAe : va_A [oc h 0 [.ref h_kinds, .ref h_now, .ref h_fault, .ref h_tape, .int taped, .int reads, .ref h_got, .ref h_failing, .ref h_past, .int undoMany, .ref h_aside, .ref h_best, .ref h_tried, .ref h_kept, .ref h_keptPast, .int keptMany, .int isKept, .ref h_sheets], ar G h_kinds 5 5 [h_kinds_0, h_kinds_1, h_kinds_2, h_kinds_3, h_kinds_4], oc h_kinds_0 1 [], oc h_kinds_1 2 [], oc h_kinds_2 3 [], oc h_kinds_3 4 [], oc h_kinds_4 5 [], oc h_now 6 [.ref h_now_0, .ref h_now_1, .ref h_now_2, .ref h_now_3, .int (mn now), .int (ma now), .int (yr now), .int (dw now)], ai G h_now_0 6 (kd now), ai G h_now_1 18 (pl now), ai G h_now_2 6 (lf now), ai G h_now_3 6 (se now), ai G h_failing 6 failing, oc h_aside 6 [.ref h_aside_0, .ref h_aside_1, .ref h_aside_2, .ref h_aside_3, .int (mn aside), .int (ma aside), .int (yr aside), .int (dw aside)], ai G h_aside_0 6 (kd aside), ai G h_aside_1 18 (pl aside), ai G h_aside_2 6 (lf aside), ai G h_aside_3 6 (se aside), oc a2 8 [.ref a2_r], ay G a2_r rn rw] s.heap.size = A at hD ⊢
  have hA : ∀ q : Nat, s.heap.size ≤ q → A q := fun q h => by rw [← hAe]; exact Or.inr h
  have hS : va_S A s.heap s.heap [] := va_S.rf
  have C : Cx p s m meth c cX0_kindsBy 7 (some .int) RX0 ([.ref h, .int p1, .ref a2, .int p3, .int p4] : List Value).toArray G A := ⟨hx, hb, hr, hlocks, hml, hown, hts, hK, hA⟩
  have hl := lv_entry ([.ref h, .int p1, .ref a2, .int p3, .int p4]) (n := 7) (Nat.le_of_ble_eq_true rfl)
  rw [lg_entry_eq]
  generalize (lg_sl ([.ref h, .int p1, .ref a2, .int p3, .int p4]) ++ List.replicate (7 - (lg_sl ([.ref h, .int p1, .ref a2, .int p3, .int p4])).length) Slot.unset).toArray = ls at hl ⊢
  have hl : lv_has ls 7 [(0, .ref h), (1, .int p1), (2, .ref a2), (3, .int p3), (4, .int p4)] := hl
  unfold wp_X0_kindsBy_B at hw
  refine lv_iconst (v := (0 : Int32)) hx hb dX0_kindsBy_0 (by decide) ?_
  refine lv_istore (lv' := [(5, .int (0 : Int32)), (0, .ref h), (1, .int p1), (2, .ref a2), (3, .int p3), (4, .int p4)]) hx hb dX0_kindsBy_1 hl (by decide) rfl (fun ls hl => ?_)
  refine lv_iconst (v := (0 : Int32)) hx hb dX0_kindsBy_3 (by decide) ?_
  refine lv_istore (lv' := [(6, .int (0 : Int32)), (5, .int (0 : Int32)), (0, .ref h), (1, .int p1), (2, .ref a2), (3, .int p3), (4, .int p4)]) hx hb dX0_kindsBy_4 hl (by decide) rfl (fun ls hl => ?_)
  obtain ⟨j_, hw⟩ := hw
  exact wk_X0_kindsBy_B_6 h h_kinds h_now h_fault h_tape h_got h_failing h_past h_aside h_best h_tried h_kept h_keptPast h_sheets h_kinds_0 h_kinds_1 h_kinds_2 h_kinds_3 h_kinds_4 h_now_0 h_now_1 h_now_2 h_now_3 h_aside_0 h_aside_1 h_aside_2 h_aside_3 a2 a2_r taped reads undoMany keptMany isKept aside rn rw p1 p3 p4  Q  C  j_ now failing (0 : Int32) (0 : Int32) s.heap [] hP hD hS ls (lv_sub hl [2, 3, 4, 5, 6, 1, 0] rfl) hw
/-! BattleBench.failed(IIIIII)I -/
def wp_X0_failed_B_121 (rn : Nat) (rw : Nat → Int32) (p1 : Int32) (p2 : Int32) (p3 : Int32) (p4 : Int32) (p5 : Int32) (p6 : Int32) (Q : Int32 → (BT × (Nat → Int32) × BT) → Prop)  : Nat → BT → (Nat → Int32) → BT → Int32 → Int32 → Int32 → Prop
  | 0, _, _, _, _, _, _ => False
  | n + 1, now, failing, aside, x8, x9, x10 =>
    (((x10 ≤ 0) → ((¬ (p6 = (1 : Int32)) → Q x9 (now, failing, aside)) ∧ ((p6 = (1 : Int32)) → Q x8 (now, failing, aside)))) ∧ (¬ (x10 ≤ 0) → (vp_in p1 6 ∧ ∀ f_4 : Nat → Int32, f_4 = upd (lf now) p1.toNatClampNeg x10 → (vp_in p2 4 ∧ wp_X0_isSo_B ((kd now), (pl now), f_4, (se now), (mn now), (ma now), (yr now), (dw now)) failing aside rn rw p1 p4 p5 (fun r_6 u_7 => (((r_6 = 0) → (∀ v_9 : Int32, v_9 = (x8 + (0 : Int32)) → (((r_6 = 0) → wp_X0_failed_B_121 rn rw p1 p2 p3 p4 p5 p6 Q  n u_7.1 u_7.2 aside v_9 x9 (x10 + (-1 : Int32))) ∧ (¬ (r_6 = 0) → wp_X0_failed_B_121 rn rw p1 p2 p3 p4 p5 p6 Q  n u_7.1 u_7.2 aside v_9 x10 (x10 + (-1 : Int32)))))) ∧ (¬ (r_6 = 0) → (∀ v_11 : Int32, v_11 = (x8 + (1 : Int32)) → (((r_6 = 0) → wp_X0_failed_B_121 rn rw p1 p2 p3 p4 p5 p6 Q  n u_7.1 u_7.2 aside v_11 x9 (x10 + (-1 : Int32))) ∧ (¬ (r_6 = 0) → wp_X0_failed_B_121 rn rw p1 p2 p3 p4 p5 p6 Q  n u_7.1 u_7.2 aside v_11 x10 (x10 + (-1 : Int32))))))))))))
set_option maxHeartbeats 4000000 in
theorem wk_X0_failed_B_121 {p : Program} {l : Launch} {e : Env} {s : State} {m : MethodId} {below : List Frame} {meth : Method} {c : Code} {args : Array Value} {G : GT} {A : Nat → Prop} (h h_kinds h_now h_fault h_tape h_got h_failing h_past h_aside h_best h_tried h_kept h_keptPast h_sheets h_kinds_0 h_kinds_1 h_kinds_2 h_kinds_3 h_kinds_4 h_now_0 h_now_1 h_now_2 h_now_3 h_aside_0 h_aside_1 h_aside_2 h_aside_3 h_sheets_x h_sheets_x_r : Nat) (shf : Nat → Option Nat) (taped : Int32) (reads : Int32) (undoMany : Int32) (keptMany : Int32) (isKept : Int32) (rn : Nat) (rw : Nat → Int32) (p1 : Int32) (p2 : Int32) (p3 : Int32) (p4 : Int32) (p5 : Int32) (p6 : Int32)(hsh : shf p2.toNatClampNeg = some h_sheets_x) (Q : Int32 → (BT × (Nat → Int32) × BT) → Prop)  (C : Cx p s m meth c cX0_failed 12 (some .int) RX0 args G A)  :
    ∀ (n : Nat), ∀  (now : BT) (failing : Nat → Int32) (aside : BT) (x8 : Int32) (x9 : Int32) (x10 : Int32) (H : Heap) (locs : List Loc), va_P G.1 gCl [oc h 0 [.ref h_kinds, .ref h_now, .ref h_fault, .ref h_tape, .int taped, .int reads, .ref h_got, .ref h_failing, .ref h_past, .int undoMany, .ref h_aside, .ref h_best, .ref h_tried, .ref h_kept, .ref h_keptPast, .int keptMany, .int isKept, .ref h_sheets], ar G h_kinds 5 5 [h_kinds_0, h_kinds_1, h_kinds_2, h_kinds_3, h_kinds_4], oc h_kinds_0 1 [], oc h_kinds_1 2 [], oc h_kinds_2 3 [], oc h_kinds_3 4 [], oc h_kinds_4 5 [], oc h_now 6 [.ref h_now_0, .ref h_now_1, .ref h_now_2, .ref h_now_3, .int (mn now), .int (ma now), .int (yr now), .int (dw now)], ai G h_now_0 6 (kd now), ai G h_now_1 18 (pl now), ai G h_now_2 6 (lf now), ai G h_now_3 6 (se now), ai G h_failing 6 failing, oc h_aside 6 [.ref h_aside_0, .ref h_aside_1, .ref h_aside_2, .ref h_aside_3, .int (mn aside), .int (ma aside), .int (yr aside), .int (dw aside)], ai G h_aside_0 6 (kd aside), ai G h_aside_1 18 (pl aside), ai G h_aside_2 6 (lf aside), ai G h_aside_3 6 (se aside), arf G h_sheets 7 4 shf, oc h_sheets_x 8 [.ref h_sheets_x_r], ay G h_sheets_x_r rn rw] H → va_D A [oc h 0 [.ref h_kinds, .ref h_now, .ref h_fault, .ref h_tape, .int taped, .int reads, .ref h_got, .ref h_failing, .ref h_past, .int undoMany, .ref h_aside, .ref h_best, .ref h_tried, .ref h_kept, .ref h_keptPast, .int keptMany, .int isKept, .ref h_sheets], ar G h_kinds 5 5 [h_kinds_0, h_kinds_1, h_kinds_2, h_kinds_3, h_kinds_4], oc h_kinds_0 1 [], oc h_kinds_1 2 [], oc h_kinds_2 3 [], oc h_kinds_3 4 [], oc h_kinds_4 5 [], oc h_now 6 [.ref h_now_0, .ref h_now_1, .ref h_now_2, .ref h_now_3, .int (mn now), .int (ma now), .int (yr now), .int (dw now)], ai G h_now_0 6 (kd now), ai G h_now_1 18 (pl now), ai G h_now_2 6 (lf now), ai G h_now_3 6 (se now), ai G h_failing 6 failing, oc h_aside 6 [.ref h_aside_0, .ref h_aside_1, .ref h_aside_2, .ref h_aside_3, .int (mn aside), .int (ma aside), .int (yr aside), .int (dw aside)], ai G h_aside_0 6 (kd aside), ai G h_aside_1 18 (pl aside), ai G h_aside_2 6 (lf aside), ai G h_aside_3 6 (se aside), arf G h_sheets 7 4 shf, oc h_sheets_x 8 [.ref h_sheets_x_r], ay G h_sheets_x_r rn rw] → va_S A s.heap H locs → ∀ (ls : Array Slot), lv_has ls 12 [(0, .ref h), (1, .int p1), (2, .int p2), (4, .int p4), (5, .int p5), (6, .int p6), (8, .int x8), (9, .int x9), (10, .int x10)] → wp_X0_failed_B_121 rn rw p1 p2 p3 p4 p5 p6 Q  n now failing aside x8 x9 x10 → W p l e ({ frames := 10, cells := 0, slots := 0, locals := 254 } : Room) s m args below meth c H locs 0 0 (MQ below (va_Qi (fun (r : Int32) (u : BT × (Nat → Int32) × BT) => Q r u) (fun u t => va_P G.1 gCl [oc h 0 [.ref h_kinds, .ref h_now, .ref h_fault, .ref h_tape, .int taped, .int reads, .ref h_got, .ref h_failing, .ref h_past, .int undoMany, .ref h_aside, .ref h_best, .ref h_tried, .ref h_kept, .ref h_keptPast, .int keptMany, .int isKept, .ref h_sheets], ar G h_kinds 5 5 [h_kinds_0, h_kinds_1, h_kinds_2, h_kinds_3, h_kinds_4], oc h_kinds_0 1 [], oc h_kinds_1 2 [], oc h_kinds_2 3 [], oc h_kinds_3 4 [], oc h_kinds_4 5 [], oc h_now 6 [.ref h_now_0, .ref h_now_1, .ref h_now_2, .ref h_now_3, .int (mn u.1), .int (ma u.1), .int (yr u.1), .int (dw u.1)], ai G h_now_0 6 (kd u.1), ai G h_now_1 18 (pl u.1), ai G h_now_2 6 (lf u.1), ai G h_now_3 6 (se u.1), ai G h_failing 6 u.2.1, oc h_aside 6 [.ref h_aside_0, .ref h_aside_1, .ref h_aside_2, .ref h_aside_3, .int (mn u.2.2), .int (ma u.2.2), .int (yr u.2.2), .int (dw u.2.2)], ai G h_aside_0 6 (kd u.2.2), ai G h_aside_1 18 (pl u.2.2), ai G h_aside_2 6 (lf u.2.2), ai G h_aside_3 6 (se u.2.2), arf G h_sheets 7 4 shf, oc h_sheets_x 8 [.ref h_sheets_x_r], ay G h_sheets_x_r rn rw] t.heap ∧ va_D A [oc h 0 [.ref h_kinds, .ref h_now, .ref h_fault, .ref h_tape, .int taped, .int reads, .ref h_got, .ref h_failing, .ref h_past, .int undoMany, .ref h_aside, .ref h_best, .ref h_tried, .ref h_kept, .ref h_keptPast, .int keptMany, .int isKept, .ref h_sheets], ar G h_kinds 5 5 [h_kinds_0, h_kinds_1, h_kinds_2, h_kinds_3, h_kinds_4], oc h_kinds_0 1 [], oc h_kinds_1 2 [], oc h_kinds_2 3 [], oc h_kinds_3 4 [], oc h_kinds_4 5 [], oc h_now 6 [.ref h_now_0, .ref h_now_1, .ref h_now_2, .ref h_now_3, .int (mn u.1), .int (ma u.1), .int (yr u.1), .int (dw u.1)], ai G h_now_0 6 (kd u.1), ai G h_now_1 18 (pl u.1), ai G h_now_2 6 (lf u.1), ai G h_now_3 6 (se u.1), ai G h_failing 6 u.2.1, oc h_aside 6 [.ref h_aside_0, .ref h_aside_1, .ref h_aside_2, .ref h_aside_3, .int (mn u.2.2), .int (ma u.2.2), .int (yr u.2.2), .int (dw u.2.2)], ai G h_aside_0 6 (kd u.2.2), ai G h_aside_1 18 (pl u.2.2), ai G h_aside_2 6 (lf u.2.2), ai G h_aside_3 6 (se u.2.2), arf G h_sheets 7 4 shf, oc h_sheets_x 8 [.ref h_sheets_x_r], ay G h_sheets_x_r rn rw]) A) args s 0 0 A) (F0 m 121 ls []) := by
  have C9 := C
  obtain ⟨hx, hb, hr, hlocks, hml, hown, hts, hK, hA⟩ := C9
  intro n
  induction n with
  | zero => intro now failing aside x8 x9 x10 H locs hP hD hS ls hl hw; exact False.elim hw
  | succ n ih =>
    intro now failing aside x8 x9 x10 H locs hP hD hS ls hl hw
    unfold wp_X0_failed_B_121 at hw
    refine lv_iload hx hb dX0_failed_121 (lv_at hl 8 rfl) ?_
    refine lv_if_le (tgt := 189) hx hb dX0_failed_123 (by decide) (fun c_1 => ?_) (fun c_1 => ?_)
    · replace hw := hw.1 c_1
      refine lv_iload hx hb dX0_failed_189 (lv_at hl 5 rfl) ?_
      refine lv_iconst (v := (1 : Int32)) hx hb dX0_failed_191 (by decide) ?_
      refine lv_icmp_ne (tgt := 200) hx hb dX0_failed_192 (by decide) (fun c_2 => ?_) (fun c_2 => ?_)
      · replace hw := hw.1 c_2
        refine lv_iload hx hb dX0_failed_200 (lv_at hl 7 rfl) ?_
        have hP9 := hP
        have hD9 := hD
        exact W.iret (v := x9) hx hb hr (fun t ht hW => ⟨⟨x9, (now, failing, aside), rfl, hw, by rw [ht]; exact hP9, hD9⟩, hS.F ht⟩) hS.2.2 dX0_failed_202
      · replace hw := hw.2 c_2
        refine lv_iload hx hb dX0_failed_195 (lv_at hl 6 rfl) ?_
        refine lv_goto (tgt := 202) hx hb dX0_failed_197 (by decide) ?_
        have hP9 := hP
        have hD9 := hD
        exact W.iret (v := x8) hx hb hr (fun t ht hW => ⟨⟨x8, (now, failing, aside), rfl, hw, by rw [ht]; exact hP9, hD9⟩, hS.F ht⟩) hS.2.2 dX0_failed_202
    · replace hw := hw.2 c_1
      refine lv_aload_n hx hb dX0_failed_126 rfl (lv_at hl 0 rfl) ?_
      refine va_get (D := G.1) (ci := 0) (v := .ref h_now) (C := RX0) (T := TX0) (N := 18) hx hb hts in_X0 hown hK.1 hP 0 rfl rfl 1 (by decide) (hts _ q257) (fun _ h9 => h9) rfl dX0_failed_127 ?_
      refine va_getN (D := G.1) (ci := 6) (v := .ref h_now_2) (C := RX6) (T := TX6) (N := 8) hx hb hts in_X6 hown hK.1 hP 7 rfl rfl 2 (by decide) (hK.n q132 rfl) (fun _ h9 => h9) rfl dX0_failed_130 ?_
      refine lv_iload_n hx hb dX0_failed_133 rfl (lv_at hl 1 rfl) ?_
      refine lv_iload hx hb dX0_failed_134 (lv_at hl 8 rfl) ?_
      obtain ⟨i_3, hw⟩ := hw
      refine z_iast hx hb hK.1 hP hD hS 10 0 rfl rfl i_3 dX0_failed_136 (k := p1.toNatClampNeg) rfl (fun f_4 ef_4 H locs hP hD hS => ?_)
      replace hw := hw f_4 ef_4
      have hP : va_P G.1 gCl [oc h 0 [.ref h_kinds, .ref h_now, .ref h_fault, .ref h_tape, .int taped, .int reads, .ref h_got, .ref h_failing, .ref h_past, .int undoMany, .ref h_aside, .ref h_best, .ref h_tried, .ref h_kept, .ref h_keptPast, .int keptMany, .int isKept, .ref h_sheets], ar G h_kinds 5 5 [h_kinds_0, h_kinds_1, h_kinds_2, h_kinds_3, h_kinds_4], oc h_kinds_0 1 [], oc h_kinds_1 2 [], oc h_kinds_2 3 [], oc h_kinds_3 4 [], oc h_kinds_4 5 [], oc h_now 6 [.ref h_now_0, .ref h_now_1, .ref h_now_2, .ref h_now_3, .int (mn now), .int (ma now), .int (yr now), .int (dw now)], ai G h_now_0 6 (kd now), ai G h_now_1 18 (pl now), ai G h_now_2 6 f_4, ai G h_now_3 6 (se now), ai G h_failing 6 failing, oc h_aside 6 [.ref h_aside_0, .ref h_aside_1, .ref h_aside_2, .ref h_aside_3, .int (mn aside), .int (ma aside), .int (yr aside), .int (dw aside)], ai G h_aside_0 6 (kd aside), ai G h_aside_1 18 (pl aside), ai G h_aside_2 6 (lf aside), ai G h_aside_3 6 (se aside), arf G h_sheets 7 4 shf, oc h_sheets_x 8 [.ref h_sheets_x_r], ay G h_sheets_x_r rn rw] H := hP
      have hD : va_D A [oc h 0 [.ref h_kinds, .ref h_now, .ref h_fault, .ref h_tape, .int taped, .int reads, .ref h_got, .ref h_failing, .ref h_past, .int undoMany, .ref h_aside, .ref h_best, .ref h_tried, .ref h_kept, .ref h_keptPast, .int keptMany, .int isKept, .ref h_sheets], ar G h_kinds 5 5 [h_kinds_0, h_kinds_1, h_kinds_2, h_kinds_3, h_kinds_4], oc h_kinds_0 1 [], oc h_kinds_1 2 [], oc h_kinds_2 3 [], oc h_kinds_3 4 [], oc h_kinds_4 5 [], oc h_now 6 [.ref h_now_0, .ref h_now_1, .ref h_now_2, .ref h_now_3, .int (mn now), .int (ma now), .int (yr now), .int (dw now)], ai G h_now_0 6 (kd now), ai G h_now_1 18 (pl now), ai G h_now_2 6 f_4, ai G h_now_3 6 (se now), ai G h_failing 6 failing, oc h_aside 6 [.ref h_aside_0, .ref h_aside_1, .ref h_aside_2, .ref h_aside_3, .int (mn aside), .int (ma aside), .int (yr aside), .int (dw aside)], ai G h_aside_0 6 (kd aside), ai G h_aside_1 18 (pl aside), ai G h_aside_2 6 (lf aside), ai G h_aside_3 6 (se aside), arf G h_sheets 7 4 shf, oc h_sheets_x 8 [.ref h_sheets_x_r], ay G h_sheets_x_r rn rw] := hD
      refine lv_aload_n hx hb dX0_failed_137 rfl (lv_at hl 0 rfl) ?_
      refine lv_iload_n hx hb dX0_failed_138 rfl (lv_at hl 1 rfl) ?_
      refine lv_aload_n hx hb dX0_failed_139 rfl (lv_at hl 0 rfl) ?_
      refine va_get (D := G.1) (ci := 0) (v := .ref h_sheets) (C := RX0) (T := TX0) (N := 18) hx hb hts in_X0 hown hK.1 hP 0 rfl rfl 17 (by decide) (hts _ q273) (fun _ h9 => h9) rfl dX0_failed_140 ?_
      refine lv_iload_n hx hb dX0_failed_143 rfl (lv_at hl 2 rfl) ?_
      obtain ⟨i_5, hw⟩ := hw
      refine z_aaldS hx hb hK.1 hP 18 7 rfl rfl i_5 dX0_failed_144 hsh ?_
      refine lv_iload hx hb dX0_failed_145 (lv_at hl 3 rfl) ?_
      refine lv_iload hx hb dX0_failed_147 (lv_at hl 4 rfl) ?_
      have hPc := hP.sub (ws' := [oc h 0 [.ref h_kinds, .ref h_now, .ref h_fault, .ref h_tape, .int taped, .int reads, .ref h_got, .ref h_failing, .ref h_past, .int undoMany, .ref h_aside, .ref h_best, .ref h_tried, .ref h_kept, .ref h_keptPast, .int keptMany, .int isKept, .ref h_sheets], ar G h_kinds 5 5 [h_kinds_0, h_kinds_1, h_kinds_2, h_kinds_3, h_kinds_4], oc h_kinds_0 1 [], oc h_kinds_1 2 [], oc h_kinds_2 3 [], oc h_kinds_3 4 [], oc h_kinds_4 5 [], oc h_now 6 [.ref h_now_0, .ref h_now_1, .ref h_now_2, .ref h_now_3, .int (mn now), .int (ma now), .int (yr now), .int (dw now)], ai G h_now_0 6 (kd now), ai G h_now_1 18 (pl now), ai G h_now_2 6 f_4, ai G h_now_3 6 (se now), ai G h_failing 6 failing, oc h_aside 6 [.ref h_aside_0, .ref h_aside_1, .ref h_aside_2, .ref h_aside_3, .int (mn aside), .int (ma aside), .int (yr aside), .int (dw aside)], ai G h_aside_0 6 (kd aside), ai G h_aside_1 18 (pl aside), ai G h_aside_2 6 (lf aside), ai G h_aside_3 6 (se aside), oc h_sheets_x 8 [.ref h_sheets_x_r], ay G h_sheets_x_r rn rw]) [0, 1, 2, 3, 4, 5, 6, 7, 8, 9, 10, 11, 12, 13, 14, 15, 16, 17, 19, 20] rfl
      have hDc := hD.sub (ws' := [oc h 0 [.ref h_kinds, .ref h_now, .ref h_fault, .ref h_tape, .int taped, .int reads, .ref h_got, .ref h_failing, .ref h_past, .int undoMany, .ref h_aside, .ref h_best, .ref h_tried, .ref h_kept, .ref h_keptPast, .int keptMany, .int isKept, .ref h_sheets], ar G h_kinds 5 5 [h_kinds_0, h_kinds_1, h_kinds_2, h_kinds_3, h_kinds_4], oc h_kinds_0 1 [], oc h_kinds_1 2 [], oc h_kinds_2 3 [], oc h_kinds_3 4 [], oc h_kinds_4 5 [], oc h_now 6 [.ref h_now_0, .ref h_now_1, .ref h_now_2, .ref h_now_3, .int (mn now), .int (ma now), .int (yr now), .int (dw now)], ai G h_now_0 6 (kd now), ai G h_now_1 18 (pl now), ai G h_now_2 6 f_4, ai G h_now_3 6 (se now), ai G h_failing 6 failing, oc h_aside 6 [.ref h_aside_0, .ref h_aside_1, .ref h_aside_2, .ref h_aside_3, .int (mn aside), .int (ma aside), .int (yr aside), .int (dw aside)], ai G h_aside_0 6 (kd aside), ai G h_aside_1 18 (pl aside), ai G h_aside_2 6 (lf aside), ai G h_aside_3 6 (se aside), oc h_sheets_x 8 [.ref h_sheets_x_r], ay G h_sheets_x_r rn rw]) [0, 1, 2, 3, 4, 5, 6, 7, 8, 9, 10, 11, 12, 13, 14, 15, 16, 17, 19, 20] (by decide) rfl
      have hFc := va_free (wc := [oc h 0 [.ref h_kinds, .ref h_now, .ref h_fault, .ref h_tape, .int taped, .int reads, .ref h_got, .ref h_failing, .ref h_past, .int undoMany, .ref h_aside, .ref h_best, .ref h_tried, .ref h_kept, .ref h_keptPast, .int keptMany, .int isKept, .ref h_sheets], ar G h_kinds 5 5 [h_kinds_0, h_kinds_1, h_kinds_2, h_kinds_3, h_kinds_4], oc h_kinds_0 1 [], oc h_kinds_1 2 [], oc h_kinds_2 3 [], oc h_kinds_3 4 [], oc h_kinds_4 5 [], oc h_now 6 [.ref h_now_0, .ref h_now_1, .ref h_now_2, .ref h_now_3, .int (mn now), .int (ma now), .int (yr now), .int (dw now)], ai G h_now_0 6 (kd now), ai G h_now_1 18 (pl now), ai G h_now_2 6 f_4, ai G h_now_3 6 (se now), ai G h_failing 6 failing, oc h_aside 6 [.ref h_aside_0, .ref h_aside_1, .ref h_aside_2, .ref h_aside_3, .int (mn aside), .int (ma aside), .int (yr aside), .int (dw aside)], ai G h_aside_0 6 (kd aside), ai G h_aside_1 18 (pl aside), ai G h_aside_2 6 (lf aside), ai G h_aside_3 6 (se aside), oc h_sheets_x 8 [.ref h_sheets_x_r], ay G h_sheets_x_r rn rw]) hD hS hA [0, 1, 2, 3, 4, 5, 6, 7, 8, 9, 10, 11, 12, 13, 14, 15, 16, 17, 19, 20] rfl
      refine va_calli (va_runV (As := [.int p1, .ref h_sheets_x, .int p4, .int p5]) (rest := []) ⟨hx, hb, hml, hown, hts⟩ (mt_X0_isSo_B l G h h_kinds h_now h_fault h_tape h_got h_failing h_past h_aside h_best h_tried h_kept h_keptPast h_sheets h_kinds_0 h_kinds_1 h_kinds_2 h_kinds_3 h_kinds_4 h_now_0 h_now_1 h_now_2 h_now_3 h_aside_0 h_aside_1 h_aside_2 h_aside_3 h_sheets_x h_sheets_x_r H.size taped reads undoMany keptMany isKept ((kd now), (pl now), f_4, (se now), (mn now), (ma now), (yr now), (dw now)) failing aside rn rw p1 p4 p5 _ hw) (cwV 4 hts (lw_V q673 q675 qs25 q54 q676) rfl rfl rfl (by decide +kernel) ⟨Nat.le_of_ble_eq_true rfl, Nat.le_of_ble_eq_true rfl⟩) ⟨fun a U g mk q => by obtain ⟨q0, q1, qP, qK, qD⟩ := q; exact ⟨q0, q1, qP, qK.call, qD⟩, va_recv hK.1 hP (ci := 0) (q0 := 0) rfl rfl, fun U hU hW => ⟨rfl, by rw [hU], by rw [hU]; exact hPc, hK.warm hW, hDc.weaken (fun _ _ _ _ => trivial)⟩⟩ rfl rfl hl.1 rfl (lv_room (Nat.le_of_ble_eq_true rfl)) dX0_failed_149 ⟨Nat.le_of_ble_eq_true rfl, Nat.le_of_ble_eq_true rfl⟩) hS (fun q _ h => hFc q h) hFc (fun r_6 u_7 t H1 locs ht hvm hw hB hz1 hk1 hS => ?_)
      obtain ⟨hP1, hD1⟩ := hB
      rw [ht] at hP1
      obtain ⟨hP, hD⟩ := va_join (wr := [arf G h_sheets 7 4 shf]) (w1 := [oc h 0 [.ref h_kinds, .ref h_now, .ref h_fault, .ref h_tape, .int taped, .int reads, .ref h_got, .ref h_failing, .ref h_past, .int undoMany, .ref h_aside, .ref h_best, .ref h_tried, .ref h_kept, .ref h_keptPast, .int keptMany, .int isKept, .ref h_sheets], ar G h_kinds 5 5 [h_kinds_0, h_kinds_1, h_kinds_2, h_kinds_3, h_kinds_4], oc h_kinds_0 1 [], oc h_kinds_1 2 [], oc h_kinds_2 3 [], oc h_kinds_3 4 [], oc h_kinds_4 5 [], oc h_now 6 [.ref h_now_0, .ref h_now_1, .ref h_now_2, .ref h_now_3, .int (mn u_7.1), .int (ma u_7.1), .int (yr u_7.1), .int (dw u_7.1)], ai G h_now_0 6 (kd u_7.1), ai G h_now_1 18 (pl u_7.1), ai G h_now_2 6 (lf u_7.1), ai G h_now_3 6 (se u_7.1), ai G h_failing 6 u_7.2, oc h_aside 6 [.ref h_aside_0, .ref h_aside_1, .ref h_aside_2, .ref h_aside_3, .int (mn aside), .int (ma aside), .int (yr aside), .int (dw aside)], ai G h_aside_0 6 (kd aside), ai G h_aside_1 18 (pl aside), ai G h_aside_2 6 (lf aside), ai G h_aside_3 6 (se aside), oc h_sheets_x 8 [.ref h_sheets_x_r], ay G h_sheets_x_r rn rw]) hP hD [0, 1, 2, 3, 4, 5, 6, 7, 8, 9, 10, 11, 12, 13, 14, 15, 16, 17, 19, 20] [18] rfl rfl (by decide) (by decide) hk1 hFc hP1 hD1
      clear hPc hDc hFc hP1 hD1 hz1 hk1 hvm
      generalize H1 = H at hP hS ⊢
      have hP : va_P G.1 gCl [arf G h_sheets 7 4 shf, oc h 0 [.ref h_kinds, .ref h_now, .ref h_fault, .ref h_tape, .int taped, .int reads, .ref h_got, .ref h_failing, .ref h_past, .int undoMany, .ref h_aside, .ref h_best, .ref h_tried, .ref h_kept, .ref h_keptPast, .int keptMany, .int isKept, .ref h_sheets], ar G h_kinds 5 5 [h_kinds_0, h_kinds_1, h_kinds_2, h_kinds_3, h_kinds_4], oc h_kinds_0 1 [], oc h_kinds_1 2 [], oc h_kinds_2 3 [], oc h_kinds_3 4 [], oc h_kinds_4 5 [], oc h_now 6 [.ref h_now_0, .ref h_now_1, .ref h_now_2, .ref h_now_3, .int (mn u_7.1), .int (ma u_7.1), .int (yr u_7.1), .int (dw u_7.1)], ai G h_now_0 6 (kd u_7.1), ai G h_now_1 18 (pl u_7.1), ai G h_now_2 6 (lf u_7.1), ai G h_now_3 6 (se u_7.1), ai G h_failing 6 u_7.2, oc h_aside 6 [.ref h_aside_0, .ref h_aside_1, .ref h_aside_2, .ref h_aside_3, .int (mn aside), .int (ma aside), .int (yr aside), .int (dw aside)], ai G h_aside_0 6 (kd aside), ai G h_aside_1 18 (pl aside), ai G h_aside_2 6 (lf aside), ai G h_aside_3 6 (se aside), oc h_sheets_x 8 [.ref h_sheets_x_r], ay G h_sheets_x_r rn rw] H := hP
      have hD : va_D A [arf G h_sheets 7 4 shf, oc h 0 [.ref h_kinds, .ref h_now, .ref h_fault, .ref h_tape, .int taped, .int reads, .ref h_got, .ref h_failing, .ref h_past, .int undoMany, .ref h_aside, .ref h_best, .ref h_tried, .ref h_kept, .ref h_keptPast, .int keptMany, .int isKept, .ref h_sheets], ar G h_kinds 5 5 [h_kinds_0, h_kinds_1, h_kinds_2, h_kinds_3, h_kinds_4], oc h_kinds_0 1 [], oc h_kinds_1 2 [], oc h_kinds_2 3 [], oc h_kinds_3 4 [], oc h_kinds_4 5 [], oc h_now 6 [.ref h_now_0, .ref h_now_1, .ref h_now_2, .ref h_now_3, .int (mn u_7.1), .int (ma u_7.1), .int (yr u_7.1), .int (dw u_7.1)], ai G h_now_0 6 (kd u_7.1), ai G h_now_1 18 (pl u_7.1), ai G h_now_2 6 (lf u_7.1), ai G h_now_3 6 (se u_7.1), ai G h_failing 6 u_7.2, oc h_aside 6 [.ref h_aside_0, .ref h_aside_1, .ref h_aside_2, .ref h_aside_3, .int (mn aside), .int (ma aside), .int (yr aside), .int (dw aside)], ai G h_aside_0 6 (kd aside), ai G h_aside_1 18 (pl aside), ai G h_aside_2 6 (lf aside), ai G h_aside_3 6 (se aside), oc h_sheets_x 8 [.ref h_sheets_x_r], ay G h_sheets_x_r rn rw] := hD
      refine lv_istore (lv' := [(11, .int r_6), (0, .ref h), (1, .int p1), (2, .int p2), (4, .int p4), (5, .int p5), (6, .int p6), (8, .int x8), (9, .int x9), (10, .int x10)]) hx hb dX0_failed_152 hl (by decide) rfl (fun ls hl => ?_)
      refine lv_iload hx hb dX0_failed_154 (lv_at hl 7 rfl) ?_
      refine lv_iload hx hb dX0_failed_156 (lv_at hl 0 rfl) ?_
      refine lv_if_eq (tgt := 165) hx hb dX0_failed_158 (by decide) (fun c_8 => ?_) (fun c_8 => ?_)
      · replace hw := hw.1 c_8
        refine lv_iconst (v := (0 : Int32)) hx hb dX0_failed_165 (by decide) ?_
        refine lv_iadd hx hb dX0_failed_166 ?_
        refine lv_topi (fun v_9 ev_9 => ?_)
        replace hw := hw v_9 ev_9
        refine lv_istore (lv' := [(8, .int v_9), (11, .int r_6), (0, .ref h), (1, .int p1), (2, .int p2), (4, .int p4), (5, .int p5), (6, .int p6), (9, .int x9), (10, .int x10)]) hx hb dX0_failed_167 hl (by decide) rfl (fun ls hl => ?_)
        refine lv_iload hx hb dX0_failed_169 (lv_at hl 1 rfl) ?_
        refine lv_if_eq (tgt := 179) hx hb dX0_failed_171 (by decide) (fun c_10 => ?_) (fun c_10 => ?_)
        · replace hw := hw.1 c_10
          refine lv_iload hx hb dX0_failed_179 (lv_at hl 8 rfl) ?_
          refine lv_istore (lv' := [(9, .int x9), (8, .int v_9), (11, .int r_6), (0, .ref h), (1, .int p1), (2, .int p2), (4, .int p4), (5, .int p5), (6, .int p6), (10, .int x10)]) hx hb dX0_failed_181 hl (by decide) rfl (fun ls hl => ?_)
          refine lv_iinc (v := (x10 + (-1 : Int32))) (lv' := [(10, .int (x10 + (-1 : Int32))), (9, .int x9), (8, .int v_9), (11, .int r_6), (0, .ref h), (1, .int p1), (2, .int p2), (4, .int p4), (5, .int p5), (6, .int p6)]) hx hb dX0_failed_183 hl (k := 9) rfl rfl (by decide) rfl (fun ls hl => ?_)
          refine lv_goto (tgt := 121) hx hb dX0_failed_186 (by decide) ?_
          exact ih u_7.1 u_7.2 aside v_9 x9 (x10 + (-1 : Int32)) H locs (hP.sub [1, 2, 3, 4, 5, 6, 7, 8, 9, 10, 11, 12, 13, 14, 15, 16, 17, 18, 0, 19, 20] rfl) (hD.sub [1, 2, 3, 4, 5, 6, 7, 8, 9, 10, 11, 12, 13, 14, 15, 16, 17, 18, 0, 19, 20] (by decide) rfl) hS ls (lv_sub hl [4, 5, 6, 7, 8, 9, 2, 1, 0] rfl) hw
        · replace hw := hw.2 c_10
          refine lv_iload hx hb dX0_failed_174 (lv_at hl 9 rfl) ?_
          refine lv_goto (tgt := 181) hx hb dX0_failed_176 (by decide) ?_
          refine lv_istore (lv' := [(9, .int x10), (8, .int v_9), (11, .int r_6), (0, .ref h), (1, .int p1), (2, .int p2), (4, .int p4), (5, .int p5), (6, .int p6), (10, .int x10)]) hx hb dX0_failed_181 hl (by decide) rfl (fun ls hl => ?_)
          refine lv_iinc (v := (x10 + (-1 : Int32))) (lv' := [(10, .int (x10 + (-1 : Int32))), (9, .int x10), (8, .int v_9), (11, .int r_6), (0, .ref h), (1, .int p1), (2, .int p2), (4, .int p4), (5, .int p5), (6, .int p6)]) hx hb dX0_failed_183 hl (k := 9) rfl rfl (by decide) rfl (fun ls hl => ?_)
          refine lv_goto (tgt := 121) hx hb dX0_failed_186 (by decide) ?_
          exact ih u_7.1 u_7.2 aside v_9 x10 (x10 + (-1 : Int32)) H locs (hP.sub [1, 2, 3, 4, 5, 6, 7, 8, 9, 10, 11, 12, 13, 14, 15, 16, 17, 18, 0, 19, 20] rfl) (hD.sub [1, 2, 3, 4, 5, 6, 7, 8, 9, 10, 11, 12, 13, 14, 15, 16, 17, 18, 0, 19, 20] (by decide) rfl) hS ls (lv_sub hl [4, 5, 6, 7, 8, 9, 2, 1, 0] rfl) hw
      · replace hw := hw.2 c_8
        refine lv_iconst (v := (1 : Int32)) hx hb dX0_failed_161 (by decide) ?_
        refine lv_goto (tgt := 166) hx hb dX0_failed_162 (by decide) ?_
        refine lv_iadd hx hb dX0_failed_166 ?_
        refine lv_topi (fun v_11 ev_11 => ?_)
        replace hw := hw v_11 ev_11
        refine lv_istore (lv' := [(8, .int v_11), (11, .int r_6), (0, .ref h), (1, .int p1), (2, .int p2), (4, .int p4), (5, .int p5), (6, .int p6), (9, .int x9), (10, .int x10)]) hx hb dX0_failed_167 hl (by decide) rfl (fun ls hl => ?_)
        refine lv_iload hx hb dX0_failed_169 (lv_at hl 1 rfl) ?_
        refine lv_if_eq (tgt := 179) hx hb dX0_failed_171 (by decide) (fun c_12 => ?_) (fun c_12 => ?_)
        · replace hw := hw.1 c_12
          refine lv_iload hx hb dX0_failed_179 (lv_at hl 8 rfl) ?_
          refine lv_istore (lv' := [(9, .int x9), (8, .int v_11), (11, .int r_6), (0, .ref h), (1, .int p1), (2, .int p2), (4, .int p4), (5, .int p5), (6, .int p6), (10, .int x10)]) hx hb dX0_failed_181 hl (by decide) rfl (fun ls hl => ?_)
          refine lv_iinc (v := (x10 + (-1 : Int32))) (lv' := [(10, .int (x10 + (-1 : Int32))), (9, .int x9), (8, .int v_11), (11, .int r_6), (0, .ref h), (1, .int p1), (2, .int p2), (4, .int p4), (5, .int p5), (6, .int p6)]) hx hb dX0_failed_183 hl (k := 9) rfl rfl (by decide) rfl (fun ls hl => ?_)
          refine lv_goto (tgt := 121) hx hb dX0_failed_186 (by decide) ?_
          exact ih u_7.1 u_7.2 aside v_11 x9 (x10 + (-1 : Int32)) H locs (hP.sub [1, 2, 3, 4, 5, 6, 7, 8, 9, 10, 11, 12, 13, 14, 15, 16, 17, 18, 0, 19, 20] rfl) (hD.sub [1, 2, 3, 4, 5, 6, 7, 8, 9, 10, 11, 12, 13, 14, 15, 16, 17, 18, 0, 19, 20] (by decide) rfl) hS ls (lv_sub hl [4, 5, 6, 7, 8, 9, 2, 1, 0] rfl) hw
        · replace hw := hw.2 c_12
          refine lv_iload hx hb dX0_failed_174 (lv_at hl 9 rfl) ?_
          refine lv_goto (tgt := 181) hx hb dX0_failed_176 (by decide) ?_
          refine lv_istore (lv' := [(9, .int x10), (8, .int v_11), (11, .int r_6), (0, .ref h), (1, .int p1), (2, .int p2), (4, .int p4), (5, .int p5), (6, .int p6), (10, .int x10)]) hx hb dX0_failed_181 hl (by decide) rfl (fun ls hl => ?_)
          refine lv_iinc (v := (x10 + (-1 : Int32))) (lv' := [(10, .int (x10 + (-1 : Int32))), (9, .int x10), (8, .int v_11), (11, .int r_6), (0, .ref h), (1, .int p1), (2, .int p2), (4, .int p4), (5, .int p5), (6, .int p6)]) hx hb dX0_failed_183 hl (k := 9) rfl rfl (by decide) rfl (fun ls hl => ?_)
          refine lv_goto (tgt := 121) hx hb dX0_failed_186 (by decide) ?_
          exact ih u_7.1 u_7.2 aside v_11 x10 (x10 + (-1 : Int32)) H locs (hP.sub [1, 2, 3, 4, 5, 6, 7, 8, 9, 10, 11, 12, 13, 14, 15, 16, 17, 18, 0, 19, 20] rfl) (hD.sub [1, 2, 3, 4, 5, 6, 7, 8, 9, 10, 11, 12, 13, 14, 15, 16, 17, 18, 0, 19, 20] (by decide) rfl) hS ls (lv_sub hl [4, 5, 6, 7, 8, 9, 2, 1, 0] rfl) hw
def wp_X0_failed_B (now : BT) (failing : Nat → Int32) (aside : BT) (rn : Nat) (rw : Nat → Int32) (p1 : Int32) (p2 : Int32) (p3 : Int32) (p4 : Int32) (p5 : Int32) (p6 : Int32) (Q : Int32 → (BT × (Nat → Int32) × BT) → Prop) : Prop :=
  wp_X0_isMan now p1 (fun r_1 => (((r_1 = 0) → Q (-1 : Int32) (now, failing, aside)) ∧ (¬ (r_1 = 0) → wp_X0_isSheet  p2 p3 (fun r_3 => (((r_3 = 0) → Q (-1 : Int32) (now, failing, aside)) ∧ (¬ (r_3 = 0) → wp_X0_isIn  (Int32.toInt64 p5) (1 : Int64) (8 : Int64) (fun r_5 => (((r_5 = 0) → Q (-1 : Int32) (now, failing, aside)) ∧ (¬ (r_5 = 0) → wp_X0_isIn  (Int32.toInt64 p6) (0 : Int64) (2 : Int64) (fun r_7 => ((¬ (r_7 = 0) → wp_X0_lacks_B rn rw p2 p3 p4 p5 (fun r_9 => (((0 ≤ r_9) → wp_X6_seatOf now p1 (fun r_11 => (((0 ≤ r_11) → wp_X6_takeFrom aside now  (fun u_13 => ((¬ (p6 = 0) → (∃ j_ : Nat, wp_X0_failed_B_121 rn rw p1 p2 p3 p4 p5 p6 Q  j_ now failing u_13 (0 : Int32) (-4 : Int32) (60 : Int32))) ∧ ((p6 = 0) → (vp_in p2 4 ∧ wp_X0_kindsBy_B now failing u_13 rn rw p1 p4 p5 (fun r_16 u_17 => Q r_16 (u_17.1, u_17.2, u_13))))))) ∧ (¬ (0 ≤ r_11) → Q (-2 : Int32) (now, failing, aside))))) ∧ (¬ (0 ≤ r_9) → Q r_9 (now, failing, aside))))) ∧ ((r_7 = 0) → Q (-1 : Int32) (now, failing, aside)))))))))))))
set_option maxHeartbeats 4000000 in
theorem mt_X0_failed_B (l : Launch) (G : GT) (h h_kinds h_now h_fault h_tape h_got h_failing h_past h_aside h_best h_tried h_kept h_keptPast h_sheets h_kinds_0 h_kinds_1 h_kinds_2 h_kinds_3 h_kinds_4 h_now_0 h_now_1 h_now_2 h_now_3 h_aside_0 h_aside_1 h_aside_2 h_aside_3 h_sheets_x h_sheets_x_r : Nat) (shf : Nat → Option Nat) (sz : Nat) (taped : Int32) (reads : Int32) (undoMany : Int32) (keptMany : Int32) (isKept : Int32) (now : BT) (failing : Nat → Int32) (aside : BT) (rn : Nat) (rw : Nat → Int32) (p1 : Int32) (p2 : Int32) (p3 : Int32) (p4 : Int32) (p5 : Int32) (p6 : Int32)(hsh : shf p2.toNatClampNeg = some h_sheets_x) (Q : Int32 → (BT × (Nat → Int32) × BT) → Prop) (hw : wp_X0_failed_B now failing aside rn rw p1 p2 p3 p4 p5 p6 Q) : Met l yX0_failed (ws_ yX0_failed cX0_failed 12 (some .int)) ({ frames := 10, cells := 0, slots := 0, locals := 254 } : Room) (va_Pc [.ref h, .int p1, .int p2, .int p3, .int p4, .int p5, .int p6] (fun U => U.heap.size = sz ∧ va_P G.1 gCl [oc h 0 [.ref h_kinds, .ref h_now, .ref h_fault, .ref h_tape, .int taped, .int reads, .ref h_got, .ref h_failing, .ref h_past, .int undoMany, .ref h_aside, .ref h_best, .ref h_tried, .ref h_kept, .ref h_keptPast, .int keptMany, .int isKept, .ref h_sheets], ar G h_kinds 5 5 [h_kinds_0, h_kinds_1, h_kinds_2, h_kinds_3, h_kinds_4], oc h_kinds_0 1 [], oc h_kinds_1 2 [], oc h_kinds_2 3 [], oc h_kinds_3 4 [], oc h_kinds_4 5 [], oc h_now 6 [.ref h_now_0, .ref h_now_1, .ref h_now_2, .ref h_now_3, .int (mn now), .int (ma now), .int (yr now), .int (dw now)], ai G h_now_0 6 (kd now), ai G h_now_1 18 (pl now), ai G h_now_2 6 (lf now), ai G h_now_3 6 (se now), ai G h_failing 6 failing, oc h_aside 6 [.ref h_aside_0, .ref h_aside_1, .ref h_aside_2, .ref h_aside_3, .int (mn aside), .int (ma aside), .int (yr aside), .int (dw aside)], ai G h_aside_0 6 (kd aside), ai G h_aside_1 18 (pl aside), ai G h_aside_2 6 (lf aside), ai G h_aside_3 6 (se aside), arf G h_sheets 7 4 shf, oc h_sheets_x 8 [.ref h_sheets_x_r], ay G h_sheets_x_r rn rw] U.heap ∧ gK G U ∧ va_D (fun _ => True) [oc h 0 [.ref h_kinds, .ref h_now, .ref h_fault, .ref h_tape, .int taped, .int reads, .ref h_got, .ref h_failing, .ref h_past, .int undoMany, .ref h_aside, .ref h_best, .ref h_tried, .ref h_kept, .ref h_keptPast, .int keptMany, .int isKept, .ref h_sheets], ar G h_kinds 5 5 [h_kinds_0, h_kinds_1, h_kinds_2, h_kinds_3, h_kinds_4], oc h_kinds_0 1 [], oc h_kinds_1 2 [], oc h_kinds_2 3 [], oc h_kinds_3 4 [], oc h_kinds_4 5 [], oc h_now 6 [.ref h_now_0, .ref h_now_1, .ref h_now_2, .ref h_now_3, .int (mn now), .int (ma now), .int (yr now), .int (dw now)], ai G h_now_0 6 (kd now), ai G h_now_1 18 (pl now), ai G h_now_2 6 (lf now), ai G h_now_3 6 (se now), ai G h_failing 6 failing, oc h_aside 6 [.ref h_aside_0, .ref h_aside_1, .ref h_aside_2, .ref h_aside_3, .int (mn aside), .int (ma aside), .int (yr aside), .int (dw aside)], ai G h_aside_0 6 (kd aside), ai G h_aside_1 18 (pl aside), ai G h_aside_2 6 (lf aside), ai G h_aside_3 6 (se aside), arf G h_sheets 7 4 shf, oc h_sheets_x 8 [.ref h_sheets_x_r], ay G h_sheets_x_r rn rw])) ((fun A => (va_Qi (fun (r : Int32) (u : BT × (Nat → Int32) × BT) => Q r u) (fun u t => va_P G.1 gCl [oc h 0 [.ref h_kinds, .ref h_now, .ref h_fault, .ref h_tape, .int taped, .int reads, .ref h_got, .ref h_failing, .ref h_past, .int undoMany, .ref h_aside, .ref h_best, .ref h_tried, .ref h_kept, .ref h_keptPast, .int keptMany, .int isKept, .ref h_sheets], ar G h_kinds 5 5 [h_kinds_0, h_kinds_1, h_kinds_2, h_kinds_3, h_kinds_4], oc h_kinds_0 1 [], oc h_kinds_1 2 [], oc h_kinds_2 3 [], oc h_kinds_3 4 [], oc h_kinds_4 5 [], oc h_now 6 [.ref h_now_0, .ref h_now_1, .ref h_now_2, .ref h_now_3, .int (mn u.1), .int (ma u.1), .int (yr u.1), .int (dw u.1)], ai G h_now_0 6 (kd u.1), ai G h_now_1 18 (pl u.1), ai G h_now_2 6 (lf u.1), ai G h_now_3 6 (se u.1), ai G h_failing 6 u.2.1, oc h_aside 6 [.ref h_aside_0, .ref h_aside_1, .ref h_aside_2, .ref h_aside_3, .int (mn u.2.2), .int (ma u.2.2), .int (yr u.2.2), .int (dw u.2.2)], ai G h_aside_0 6 (kd u.2.2), ai G h_aside_1 18 (pl u.2.2), ai G h_aside_2 6 (lf u.2.2), ai G h_aside_3 6 (se u.2.2), arf G h_sheets 7 4 shf, oc h_sheets_x 8 [.ref h_sheets_x_r], ay G h_sheets_x_r rn rw] t.heap ∧ va_D A [oc h 0 [.ref h_kinds, .ref h_now, .ref h_fault, .ref h_tape, .int taped, .int reads, .ref h_got, .ref h_failing, .ref h_past, .int undoMany, .ref h_aside, .ref h_best, .ref h_tried, .ref h_kept, .ref h_keptPast, .int keptMany, .int isKept, .ref h_sheets], ar G h_kinds 5 5 [h_kinds_0, h_kinds_1, h_kinds_2, h_kinds_3, h_kinds_4], oc h_kinds_0 1 [], oc h_kinds_1 2 [], oc h_kinds_2 3 [], oc h_kinds_3 4 [], oc h_kinds_4 5 [], oc h_now 6 [.ref h_now_0, .ref h_now_1, .ref h_now_2, .ref h_now_3, .int (mn u.1), .int (ma u.1), .int (yr u.1), .int (dw u.1)], ai G h_now_0 6 (kd u.1), ai G h_now_1 18 (pl u.1), ai G h_now_2 6 (lf u.1), ai G h_now_3 6 (se u.1), ai G h_failing 6 u.2.1, oc h_aside 6 [.ref h_aside_0, .ref h_aside_1, .ref h_aside_2, .ref h_aside_3, .int (mn u.2.2), .int (ma u.2.2), .int (yr u.2.2), .int (dw u.2.2)], ai G h_aside_0 6 (kd u.2.2), ai G h_aside_1 18 (pl u.2.2), ai G h_aside_2 6 (lf u.2.2), ai G h_aside_3 6 (se u.2.2), arf G h_sheets 7 4 shf, oc h_sheets_x 8 [.ref h_sheets_x_r], ay G h_sheets_x_r rn rw]) A)) (va_A [oc h 0 [.ref h_kinds, .ref h_now, .ref h_fault, .ref h_tape, .int taped, .int reads, .ref h_got, .ref h_failing, .ref h_past, .int undoMany, .ref h_aside, .ref h_best, .ref h_tried, .ref h_kept, .ref h_keptPast, .int keptMany, .int isKept, .ref h_sheets], ar G h_kinds 5 5 [h_kinds_0, h_kinds_1, h_kinds_2, h_kinds_3, h_kinds_4], oc h_kinds_0 1 [], oc h_kinds_1 2 [], oc h_kinds_2 3 [], oc h_kinds_3 4 [], oc h_kinds_4 5 [], oc h_now 6 [.ref h_now_0, .ref h_now_1, .ref h_now_2, .ref h_now_3, .int (mn now), .int (ma now), .int (yr now), .int (dw now)], ai G h_now_0 6 (kd now), ai G h_now_1 18 (pl now), ai G h_now_2 6 (lf now), ai G h_now_3 6 (se now), ai G h_failing 6 failing, oc h_aside 6 [.ref h_aside_0, .ref h_aside_1, .ref h_aside_2, .ref h_aside_3, .int (mn aside), .int (ma aside), .int (yr aside), .int (dw aside)], ai G h_aside_0 6 (kd aside), ai G h_aside_1 18 (pl aside), ai G h_aside_2 6 (lf aside), ai G h_aside_3 6 (se aside), arf G h_sheets 7 4 shf, oc h_sheets_x 8 [.ref h_sheets_x_r], ay G h_sheets_x_r rn rw] sz)) 0 0 (va_A [oc h 0 [.ref h_kinds, .ref h_now, .ref h_fault, .ref h_tape, .int taped, .int reads, .ref h_got, .ref h_failing, .ref h_past, .int undoMany, .ref h_aside, .ref h_best, .ref h_tried, .ref h_kept, .ref h_keptPast, .int keptMany, .int isKept, .ref h_sheets], ar G h_kinds 5 5 [h_kinds_0, h_kinds_1, h_kinds_2, h_kinds_3, h_kinds_4], oc h_kinds_0 1 [], oc h_kinds_1 2 [], oc h_kinds_2 3 [], oc h_kinds_3 4 [], oc h_kinds_4 5 [], oc h_now 6 [.ref h_now_0, .ref h_now_1, .ref h_now_2, .ref h_now_3, .int (mn now), .int (ma now), .int (yr now), .int (dw now)], ai G h_now_0 6 (kd now), ai G h_now_1 18 (pl now), ai G h_now_2 6 (lf now), ai G h_now_3 6 (se now), ai G h_failing 6 failing, oc h_aside 6 [.ref h_aside_0, .ref h_aside_1, .ref h_aside_2, .ref h_aside_3, .int (mn aside), .int (ma aside), .int (yr aside), .int (dw aside)], ai G h_aside_0 6 (kd aside), ai G h_aside_1 18 (pl aside), ai G h_aside_2 6 (lf aside), ai G h_aside_3 6 (se aside), arf G h_sheets 7 4 shf, oc h_sheets_x 8 [.ref h_sheets_x_r], ay G h_sheets_x_r rn rw] sz) := by
  refine Met.ofW (cc := cX0_failed) (maxL := 12) (ret := (some .int)) (by decide) rfl ?_
  intro p e s m args below meth c s₁ B hml hv
  obtain ⟨rfl, hsz, hP, hK, hD0⟩ := hv
  have hx := B.exec
  have hb := B.bytes
  have hr := B.returns
  have hts := atoms_spec (ws := (ws_ yX0_failed cX0_failed 12 (some .int))) B.pre
  have hts : ∀ w ∈ lw_all, w.before _ s = true := fun w h => hts w (List.mem_cons_of_mem _ h)
  have hown : s.vm.findClass RX0 = some m.cls := findClass_of_methodNamed B.named
  have hlocks := B.notSynchronized
  subst hsz
  have hD := hD0.self (sz := s.heap.size)
  generalize hAe : va_A [oc h 0 [.ref h_kinds, .ref h_now, .ref h_fault, .ref h_tape, .int taped, .int reads, .ref h_got, .ref h_failing, .ref h_past, .int undoMany, .ref h_aside, .ref h_best, .ref h_tried, .ref h_kept, .ref h_keptPast, .int keptMany, .int isKept, .ref h_sheets], ar G h_kinds 5 5 [h_kinds_0, h_kinds_1, h_kinds_2, h_kinds_3, h_kinds_4], oc h_kinds_0 1 [], oc h_kinds_1 2 [], oc h_kinds_2 3 [], oc h_kinds_3 4 [], oc h_kinds_4 5 [], oc h_now 6 [.ref h_now_0, .ref h_now_1, .ref h_now_2, .ref h_now_3, .int (mn now), .int (ma now), .int (yr now), .int (dw now)], ai G h_now_0 6 (kd now), ai G h_now_1 18 (pl now), ai G h_now_2 6 (lf now), ai G h_now_3 6 (se now), ai G h_failing 6 failing, oc h_aside 6 [.ref h_aside_0, .ref h_aside_1, .ref h_aside_2, .ref h_aside_3, .int (mn aside), .int (ma aside), .int (yr aside), .int (dw aside)], ai G h_aside_0 6 (kd aside), ai G h_aside_1 18 (pl aside), ai G h_aside_2 6 (lf aside), ai G h_aside_3 6 (se aside), arf G h_sheets 7 4 shf, oc h_sheets_x 8 [.ref h_sheets_x_r], ay G h_sheets_x_r rn rw] s.heap.size = A at hD ⊢
  have hA : ∀ q : Nat, s.heap.size ≤ q → A q := fun q h => by rw [← hAe]; exact Or.inr h
  have hS : va_S A s.heap s.heap [] := va_S.rf
  have C : Cx p s m meth c cX0_failed 12 (some .int) RX0 ([.ref h, .int p1, .int p2, .int p3, .int p4, .int p5, .int p6] : List Value).toArray G A := ⟨hx, hb, hr, hlocks, hml, hown, hts, hK, hA⟩
  have hl := lv_entry ([.ref h, .int p1, .int p2, .int p3, .int p4, .int p5, .int p6]) (n := 12) (Nat.le_of_ble_eq_true rfl)
  rw [lg_entry_eq]
  generalize (lg_sl ([.ref h, .int p1, .int p2, .int p3, .int p4, .int p5, .int p6]) ++ List.replicate (12 - (lg_sl ([.ref h, .int p1, .int p2, .int p3, .int p4, .int p5, .int p6])).length) Slot.unset).toArray = ls at hl ⊢
  have hl : lv_has ls 12 [(0, .ref h), (1, .int p1), (2, .int p2), (3, .int p3), (4, .int p4), (5, .int p5), (6, .int p6)] := hl
  unfold wp_X0_failed_B at hw
  refine lv_aload_n hx hb dX0_failed_0 rfl (lv_at hl 0 rfl) ?_
  refine lv_iload_n hx hb dX0_failed_1 rfl (lv_at hl 1 rfl) ?_
  have hPc := hP.sub (ws' := [oc h 0 [.ref h_kinds, .ref h_now, .ref h_fault, .ref h_tape, .int taped, .int reads, .ref h_got, .ref h_failing, .ref h_past, .int undoMany, .ref h_aside, .ref h_best, .ref h_tried, .ref h_kept, .ref h_keptPast, .int keptMany, .int isKept, .ref h_sheets], oc h_now 6 [.ref h_now_0, .ref h_now_1, .ref h_now_2, .ref h_now_3, .int (mn now), .int (ma now), .int (yr now), .int (dw now)], ai G h_now_0 6 (kd now), ai G h_now_1 18 (pl now), ai G h_now_2 6 (lf now), ai G h_now_3 6 (se now)]) [0, 7, 8, 9, 10, 11] rfl
  have hDc := hD.sub (ws' := [oc h 0 [.ref h_kinds, .ref h_now, .ref h_fault, .ref h_tape, .int taped, .int reads, .ref h_got, .ref h_failing, .ref h_past, .int undoMany, .ref h_aside, .ref h_best, .ref h_tried, .ref h_kept, .ref h_keptPast, .int keptMany, .int isKept, .ref h_sheets], oc h_now 6 [.ref h_now_0, .ref h_now_1, .ref h_now_2, .ref h_now_3, .int (mn now), .int (ma now), .int (yr now), .int (dw now)], ai G h_now_0 6 (kd now), ai G h_now_1 18 (pl now), ai G h_now_2 6 (lf now), ai G h_now_3 6 (se now)]) [0, 7, 8, 9, 10, 11] (by decide) rfl
  have hFc := va_free (wc := [oc h 0 [.ref h_kinds, .ref h_now, .ref h_fault, .ref h_tape, .int taped, .int reads, .ref h_got, .ref h_failing, .ref h_past, .int undoMany, .ref h_aside, .ref h_best, .ref h_tried, .ref h_kept, .ref h_keptPast, .int keptMany, .int isKept, .ref h_sheets], oc h_now 6 [.ref h_now_0, .ref h_now_1, .ref h_now_2, .ref h_now_3, .int (mn now), .int (ma now), .int (yr now), .int (dw now)], ai G h_now_0 6 (kd now), ai G h_now_1 18 (pl now), ai G h_now_2 6 (lf now), ai G h_now_3 6 (se now)]) hD hS hA [0, 7, 8, 9, 10, 11] rfl
  refine va_calli (va_runV (As := [.int p1]) (rest := []) ⟨hx, hb, hml, hown, hts⟩ (mt_X0_isMan l G h h_kinds h_now h_fault h_tape h_got h_failing h_past h_aside h_best h_tried h_kept h_keptPast h_sheets h_now_0 h_now_1 h_now_2 h_now_3 s.heap.size taped reads undoMany keptMany isKept now p1 _ hw) (cwV 1 hts (lw_V q336 q338 qs2 q54 q339) rfl rfl rfl (by decide +kernel) ⟨Nat.le_of_ble_eq_true rfl, Nat.le_of_ble_eq_true rfl⟩) ⟨fun a U g mk q => by obtain ⟨q0, q1, qP, qK, qD⟩ := q; exact ⟨q0, q1, qP, qK.call, qD⟩, va_recv hK.1 hP (ci := 0) (q0 := 0) rfl rfl, fun U hU hW => ⟨rfl, by rw [hU], by rw [hU]; exact hPc, hK.warm hW, hDc.weaken (fun _ _ _ _ => trivial)⟩⟩ rfl rfl hl.1 rfl (lv_room (Nat.le_of_ble_eq_true rfl)) dX0_failed_2 ⟨Nat.le_of_ble_eq_true rfl, Nat.le_of_ble_eq_true rfl⟩) hS (fun q _ h => hFc q h) hFc (fun r_1 _ t H1 locs ht hvm hw hB hz1 hk1 hS => ?_)
  obtain ⟨hP1, hD1⟩ := hB
  rw [ht] at hP1
  obtain ⟨hP, hD⟩ := va_join (wr := [ar G h_kinds 5 5 [h_kinds_0, h_kinds_1, h_kinds_2, h_kinds_3, h_kinds_4], oc h_kinds_0 1 [], oc h_kinds_1 2 [], oc h_kinds_2 3 [], oc h_kinds_3 4 [], oc h_kinds_4 5 [], ai G h_failing 6 failing, oc h_aside 6 [.ref h_aside_0, .ref h_aside_1, .ref h_aside_2, .ref h_aside_3, .int (mn aside), .int (ma aside), .int (yr aside), .int (dw aside)], ai G h_aside_0 6 (kd aside), ai G h_aside_1 18 (pl aside), ai G h_aside_2 6 (lf aside), ai G h_aside_3 6 (se aside), arf G h_sheets 7 4 shf, oc h_sheets_x 8 [.ref h_sheets_x_r], ay G h_sheets_x_r rn rw]) (w1 := [oc h 0 [.ref h_kinds, .ref h_now, .ref h_fault, .ref h_tape, .int taped, .int reads, .ref h_got, .ref h_failing, .ref h_past, .int undoMany, .ref h_aside, .ref h_best, .ref h_tried, .ref h_kept, .ref h_keptPast, .int keptMany, .int isKept, .ref h_sheets], oc h_now 6 [.ref h_now_0, .ref h_now_1, .ref h_now_2, .ref h_now_3, .int (mn now), .int (ma now), .int (yr now), .int (dw now)], ai G h_now_0 6 (kd now), ai G h_now_1 18 (pl now), ai G h_now_2 6 (lf now), ai G h_now_3 6 (se now)]) hP hD [0, 7, 8, 9, 10, 11] [1, 2, 3, 4, 5, 6, 12, 13, 14, 15, 16, 17, 18, 19, 20] rfl rfl (by decide) (by decide) hk1 hFc hP1 hD1
  clear hPc hDc hFc hP1 hD1 hz1 hk1 hvm
  generalize H1 = H at hP hS ⊢
  have hP : va_P G.1 gCl [ar G h_kinds 5 5 [h_kinds_0, h_kinds_1, h_kinds_2, h_kinds_3, h_kinds_4], oc h_kinds_0 1 [], oc h_kinds_1 2 [], oc h_kinds_2 3 [], oc h_kinds_3 4 [], oc h_kinds_4 5 [], ai G h_failing 6 failing, oc h_aside 6 [.ref h_aside_0, .ref h_aside_1, .ref h_aside_2, .ref h_aside_3, .int (mn aside), .int (ma aside), .int (yr aside), .int (dw aside)], ai G h_aside_0 6 (kd aside), ai G h_aside_1 18 (pl aside), ai G h_aside_2 6 (lf aside), ai G h_aside_3 6 (se aside), arf G h_sheets 7 4 shf, oc h_sheets_x 8 [.ref h_sheets_x_r], ay G h_sheets_x_r rn rw, oc h 0 [.ref h_kinds, .ref h_now, .ref h_fault, .ref h_tape, .int taped, .int reads, .ref h_got, .ref h_failing, .ref h_past, .int undoMany, .ref h_aside, .ref h_best, .ref h_tried, .ref h_kept, .ref h_keptPast, .int keptMany, .int isKept, .ref h_sheets], oc h_now 6 [.ref h_now_0, .ref h_now_1, .ref h_now_2, .ref h_now_3, .int (mn now), .int (ma now), .int (yr now), .int (dw now)], ai G h_now_0 6 (kd now), ai G h_now_1 18 (pl now), ai G h_now_2 6 (lf now), ai G h_now_3 6 (se now)] H := hP
  have hD : va_D A [ar G h_kinds 5 5 [h_kinds_0, h_kinds_1, h_kinds_2, h_kinds_3, h_kinds_4], oc h_kinds_0 1 [], oc h_kinds_1 2 [], oc h_kinds_2 3 [], oc h_kinds_3 4 [], oc h_kinds_4 5 [], ai G h_failing 6 failing, oc h_aside 6 [.ref h_aside_0, .ref h_aside_1, .ref h_aside_2, .ref h_aside_3, .int (mn aside), .int (ma aside), .int (yr aside), .int (dw aside)], ai G h_aside_0 6 (kd aside), ai G h_aside_1 18 (pl aside), ai G h_aside_2 6 (lf aside), ai G h_aside_3 6 (se aside), arf G h_sheets 7 4 shf, oc h_sheets_x 8 [.ref h_sheets_x_r], ay G h_sheets_x_r rn rw, oc h 0 [.ref h_kinds, .ref h_now, .ref h_fault, .ref h_tape, .int taped, .int reads, .ref h_got, .ref h_failing, .ref h_past, .int undoMany, .ref h_aside, .ref h_best, .ref h_tried, .ref h_kept, .ref h_keptPast, .int keptMany, .int isKept, .ref h_sheets], oc h_now 6 [.ref h_now_0, .ref h_now_1, .ref h_now_2, .ref h_now_3, .int (mn now), .int (ma now), .int (yr now), .int (dw now)], ai G h_now_0 6 (kd now), ai G h_now_1 18 (pl now), ai G h_now_2 6 (lf now), ai G h_now_3 6 (se now)] := hD
  refine lv_if_eq (tgt := 42) hx hb dX0_failed_5 (by decide) (fun c_2 => ?_) (fun c_2 => ?_)
  · replace hw := hw.1 c_2
    refine lv_iconst (v := (-1 : Int32)) hx hb dX0_failed_42 (by decide) ?_
    have hP9 := hP.sub (ws' := [oc h 0 [.ref h_kinds, .ref h_now, .ref h_fault, .ref h_tape, .int taped, .int reads, .ref h_got, .ref h_failing, .ref h_past, .int undoMany, .ref h_aside, .ref h_best, .ref h_tried, .ref h_kept, .ref h_keptPast, .int keptMany, .int isKept, .ref h_sheets], ar G h_kinds 5 5 [h_kinds_0, h_kinds_1, h_kinds_2, h_kinds_3, h_kinds_4], oc h_kinds_0 1 [], oc h_kinds_1 2 [], oc h_kinds_2 3 [], oc h_kinds_3 4 [], oc h_kinds_4 5 [], oc h_now 6 [.ref h_now_0, .ref h_now_1, .ref h_now_2, .ref h_now_3, .int (mn now), .int (ma now), .int (yr now), .int (dw now)], ai G h_now_0 6 (kd now), ai G h_now_1 18 (pl now), ai G h_now_2 6 (lf now), ai G h_now_3 6 (se now), ai G h_failing 6 failing, oc h_aside 6 [.ref h_aside_0, .ref h_aside_1, .ref h_aside_2, .ref h_aside_3, .int (mn aside), .int (ma aside), .int (yr aside), .int (dw aside)], ai G h_aside_0 6 (kd aside), ai G h_aside_1 18 (pl aside), ai G h_aside_2 6 (lf aside), ai G h_aside_3 6 (se aside), arf G h_sheets 7 4 shf, oc h_sheets_x 8 [.ref h_sheets_x_r], ay G h_sheets_x_r rn rw]) [15, 0, 1, 2, 3, 4, 5, 16, 17, 18, 19, 20, 6, 7, 8, 9, 10, 11, 12, 13, 14] rfl
    have hD9 := hD.sub (ws' := [oc h 0 [.ref h_kinds, .ref h_now, .ref h_fault, .ref h_tape, .int taped, .int reads, .ref h_got, .ref h_failing, .ref h_past, .int undoMany, .ref h_aside, .ref h_best, .ref h_tried, .ref h_kept, .ref h_keptPast, .int keptMany, .int isKept, .ref h_sheets], ar G h_kinds 5 5 [h_kinds_0, h_kinds_1, h_kinds_2, h_kinds_3, h_kinds_4], oc h_kinds_0 1 [], oc h_kinds_1 2 [], oc h_kinds_2 3 [], oc h_kinds_3 4 [], oc h_kinds_4 5 [], oc h_now 6 [.ref h_now_0, .ref h_now_1, .ref h_now_2, .ref h_now_3, .int (mn now), .int (ma now), .int (yr now), .int (dw now)], ai G h_now_0 6 (kd now), ai G h_now_1 18 (pl now), ai G h_now_2 6 (lf now), ai G h_now_3 6 (se now), ai G h_failing 6 failing, oc h_aside 6 [.ref h_aside_0, .ref h_aside_1, .ref h_aside_2, .ref h_aside_3, .int (mn aside), .int (ma aside), .int (yr aside), .int (dw aside)], ai G h_aside_0 6 (kd aside), ai G h_aside_1 18 (pl aside), ai G h_aside_2 6 (lf aside), ai G h_aside_3 6 (se aside), arf G h_sheets 7 4 shf, oc h_sheets_x 8 [.ref h_sheets_x_r], ay G h_sheets_x_r rn rw]) [15, 0, 1, 2, 3, 4, 5, 16, 17, 18, 19, 20, 6, 7, 8, 9, 10, 11, 12, 13, 14] (by decide) rfl
    exact W.iret (v := (-1 : Int32)) hx hb hr (fun t ht hW => ⟨⟨(-1 : Int32), (now, failing, aside), rfl, hw, by rw [ht]; exact hP9, hD9⟩, hS.F ht⟩) hS.2.2 dX0_failed_43
  · replace hw := hw.2 c_2
    refine lv_iload_n hx hb dX0_failed_8 rfl (lv_at hl 2 rfl) ?_
    refine lv_iload_n hx hb dX0_failed_9 rfl (lv_at hl 3 rfl) ?_
    have hPc := hP.sub (ws' := []) [] rfl
    have hDc := hD.sub (ws' := []) [] (by decide) rfl
    have hFc := va_free (wc := []) hD hS hA [] rfl
    refine va_calli (va_runS (As := [.int p2, .int p3]) (rest := []) ⟨hx, hb, hml, hown, hts⟩ (mt_X0_isSheet l G  H.size  p2 p3 _ hw) (va_cwS 2 hts (lw_S q648 q649 q54 q650) rfl rfl rfl (by decide +kernel) ⟨Nat.le_of_ble_eq_true rfl, Nat.le_of_ble_eq_true rfl⟩) ⟨fun a U g mk q => by obtain ⟨q0, q1, qP, qK, qD⟩ := q; exact ⟨q0, q1, qP, qK.call, qD⟩, fun U hU hW => ⟨rfl, by rw [hU], by rw [hU]; exact hPc, hK.warm hW, hDc.weaken (fun _ _ _ _ => trivial)⟩⟩ rfl rfl hl.1 rfl (lv_room (Nat.le_of_ble_eq_true rfl)) dX0_failed_10 ⟨Nat.le_of_ble_eq_true rfl, Nat.le_of_ble_eq_true rfl⟩) hS (fun q _ h => hFc q h) hFc (fun r_3 _ t H1 locs ht hvm hw hB hz1 hk1 hS => ?_)
    obtain ⟨hP1, hD1⟩ := hB
    rw [ht] at hP1
    obtain ⟨hP, hD⟩ := va_join (wr := [ar G h_kinds 5 5 [h_kinds_0, h_kinds_1, h_kinds_2, h_kinds_3, h_kinds_4], oc h_kinds_0 1 [], oc h_kinds_1 2 [], oc h_kinds_2 3 [], oc h_kinds_3 4 [], oc h_kinds_4 5 [], ai G h_failing 6 failing, oc h_aside 6 [.ref h_aside_0, .ref h_aside_1, .ref h_aside_2, .ref h_aside_3, .int (mn aside), .int (ma aside), .int (yr aside), .int (dw aside)], ai G h_aside_0 6 (kd aside), ai G h_aside_1 18 (pl aside), ai G h_aside_2 6 (lf aside), ai G h_aside_3 6 (se aside), arf G h_sheets 7 4 shf, oc h_sheets_x 8 [.ref h_sheets_x_r], ay G h_sheets_x_r rn rw, oc h 0 [.ref h_kinds, .ref h_now, .ref h_fault, .ref h_tape, .int taped, .int reads, .ref h_got, .ref h_failing, .ref h_past, .int undoMany, .ref h_aside, .ref h_best, .ref h_tried, .ref h_kept, .ref h_keptPast, .int keptMany, .int isKept, .ref h_sheets], oc h_now 6 [.ref h_now_0, .ref h_now_1, .ref h_now_2, .ref h_now_3, .int (mn now), .int (ma now), .int (yr now), .int (dw now)], ai G h_now_0 6 (kd now), ai G h_now_1 18 (pl now), ai G h_now_2 6 (lf now), ai G h_now_3 6 (se now)]) (w1 := []) hP hD [] [0, 1, 2, 3, 4, 5, 6, 7, 8, 9, 10, 11, 12, 13, 14, 15, 16, 17, 18, 19, 20] rfl rfl (by decide) (by decide) hk1 hFc hP1 hD1
    clear hPc hDc hFc hP1 hD1 hz1 hk1 hvm
    generalize H1 = H at hP hS ⊢
    have hP : va_P G.1 gCl [ar G h_kinds 5 5 [h_kinds_0, h_kinds_1, h_kinds_2, h_kinds_3, h_kinds_4], oc h_kinds_0 1 [], oc h_kinds_1 2 [], oc h_kinds_2 3 [], oc h_kinds_3 4 [], oc h_kinds_4 5 [], ai G h_failing 6 failing, oc h_aside 6 [.ref h_aside_0, .ref h_aside_1, .ref h_aside_2, .ref h_aside_3, .int (mn aside), .int (ma aside), .int (yr aside), .int (dw aside)], ai G h_aside_0 6 (kd aside), ai G h_aside_1 18 (pl aside), ai G h_aside_2 6 (lf aside), ai G h_aside_3 6 (se aside), arf G h_sheets 7 4 shf, oc h_sheets_x 8 [.ref h_sheets_x_r], ay G h_sheets_x_r rn rw, oc h 0 [.ref h_kinds, .ref h_now, .ref h_fault, .ref h_tape, .int taped, .int reads, .ref h_got, .ref h_failing, .ref h_past, .int undoMany, .ref h_aside, .ref h_best, .ref h_tried, .ref h_kept, .ref h_keptPast, .int keptMany, .int isKept, .ref h_sheets], oc h_now 6 [.ref h_now_0, .ref h_now_1, .ref h_now_2, .ref h_now_3, .int (mn now), .int (ma now), .int (yr now), .int (dw now)], ai G h_now_0 6 (kd now), ai G h_now_1 18 (pl now), ai G h_now_2 6 (lf now), ai G h_now_3 6 (se now)] H := hP
    have hD : va_D A [ar G h_kinds 5 5 [h_kinds_0, h_kinds_1, h_kinds_2, h_kinds_3, h_kinds_4], oc h_kinds_0 1 [], oc h_kinds_1 2 [], oc h_kinds_2 3 [], oc h_kinds_3 4 [], oc h_kinds_4 5 [], ai G h_failing 6 failing, oc h_aside 6 [.ref h_aside_0, .ref h_aside_1, .ref h_aside_2, .ref h_aside_3, .int (mn aside), .int (ma aside), .int (yr aside), .int (dw aside)], ai G h_aside_0 6 (kd aside), ai G h_aside_1 18 (pl aside), ai G h_aside_2 6 (lf aside), ai G h_aside_3 6 (se aside), arf G h_sheets 7 4 shf, oc h_sheets_x 8 [.ref h_sheets_x_r], ay G h_sheets_x_r rn rw, oc h 0 [.ref h_kinds, .ref h_now, .ref h_fault, .ref h_tape, .int taped, .int reads, .ref h_got, .ref h_failing, .ref h_past, .int undoMany, .ref h_aside, .ref h_best, .ref h_tried, .ref h_kept, .ref h_keptPast, .int keptMany, .int isKept, .ref h_sheets], oc h_now 6 [.ref h_now_0, .ref h_now_1, .ref h_now_2, .ref h_now_3, .int (mn now), .int (ma now), .int (yr now), .int (dw now)], ai G h_now_0 6 (kd now), ai G h_now_1 18 (pl now), ai G h_now_2 6 (lf now), ai G h_now_3 6 (se now)] := hD
    refine lv_if_eq (tgt := 42) hx hb dX0_failed_13 (by decide) (fun c_4 => ?_) (fun c_4 => ?_)
    · replace hw := hw.1 c_4
      refine lv_iconst (v := (-1 : Int32)) hx hb dX0_failed_42 (by decide) ?_
      have hP9 := hP.sub (ws' := [oc h 0 [.ref h_kinds, .ref h_now, .ref h_fault, .ref h_tape, .int taped, .int reads, .ref h_got, .ref h_failing, .ref h_past, .int undoMany, .ref h_aside, .ref h_best, .ref h_tried, .ref h_kept, .ref h_keptPast, .int keptMany, .int isKept, .ref h_sheets], ar G h_kinds 5 5 [h_kinds_0, h_kinds_1, h_kinds_2, h_kinds_3, h_kinds_4], oc h_kinds_0 1 [], oc h_kinds_1 2 [], oc h_kinds_2 3 [], oc h_kinds_3 4 [], oc h_kinds_4 5 [], oc h_now 6 [.ref h_now_0, .ref h_now_1, .ref h_now_2, .ref h_now_3, .int (mn now), .int (ma now), .int (yr now), .int (dw now)], ai G h_now_0 6 (kd now), ai G h_now_1 18 (pl now), ai G h_now_2 6 (lf now), ai G h_now_3 6 (se now), ai G h_failing 6 failing, oc h_aside 6 [.ref h_aside_0, .ref h_aside_1, .ref h_aside_2, .ref h_aside_3, .int (mn aside), .int (ma aside), .int (yr aside), .int (dw aside)], ai G h_aside_0 6 (kd aside), ai G h_aside_1 18 (pl aside), ai G h_aside_2 6 (lf aside), ai G h_aside_3 6 (se aside), arf G h_sheets 7 4 shf, oc h_sheets_x 8 [.ref h_sheets_x_r], ay G h_sheets_x_r rn rw]) [15, 0, 1, 2, 3, 4, 5, 16, 17, 18, 19, 20, 6, 7, 8, 9, 10, 11, 12, 13, 14] rfl
      have hD9 := hD.sub (ws' := [oc h 0 [.ref h_kinds, .ref h_now, .ref h_fault, .ref h_tape, .int taped, .int reads, .ref h_got, .ref h_failing, .ref h_past, .int undoMany, .ref h_aside, .ref h_best, .ref h_tried, .ref h_kept, .ref h_keptPast, .int keptMany, .int isKept, .ref h_sheets], ar G h_kinds 5 5 [h_kinds_0, h_kinds_1, h_kinds_2, h_kinds_3, h_kinds_4], oc h_kinds_0 1 [], oc h_kinds_1 2 [], oc h_kinds_2 3 [], oc h_kinds_3 4 [], oc h_kinds_4 5 [], oc h_now 6 [.ref h_now_0, .ref h_now_1, .ref h_now_2, .ref h_now_3, .int (mn now), .int (ma now), .int (yr now), .int (dw now)], ai G h_now_0 6 (kd now), ai G h_now_1 18 (pl now), ai G h_now_2 6 (lf now), ai G h_now_3 6 (se now), ai G h_failing 6 failing, oc h_aside 6 [.ref h_aside_0, .ref h_aside_1, .ref h_aside_2, .ref h_aside_3, .int (mn aside), .int (ma aside), .int (yr aside), .int (dw aside)], ai G h_aside_0 6 (kd aside), ai G h_aside_1 18 (pl aside), ai G h_aside_2 6 (lf aside), ai G h_aside_3 6 (se aside), arf G h_sheets 7 4 shf, oc h_sheets_x 8 [.ref h_sheets_x_r], ay G h_sheets_x_r rn rw]) [15, 0, 1, 2, 3, 4, 5, 16, 17, 18, 19, 20, 6, 7, 8, 9, 10, 11, 12, 13, 14] (by decide) rfl
      exact W.iret (v := (-1 : Int32)) hx hb hr (fun t ht hW => ⟨⟨(-1 : Int32), (now, failing, aside), rfl, hw, by rw [ht]; exact hP9, hD9⟩, hS.F ht⟩) hS.2.2 dX0_failed_43
    · replace hw := hw.2 c_4
      refine lv_iload hx hb dX0_failed_16 (lv_at hl 5 rfl) ?_
      refine lv_i2l hx hb dX0_failed_18 rfl ?_
      refine lv_lconst (v := (1 : Int64)) hx hb dX0_failed_19 (by decide) ?_
      refine lv_ldc2 (v := (8 : Int64)) hx hb hown (hts _ q652) dX0_failed_20 ?_
      have hPc := hP.sub (ws' := []) [] rfl
      have hDc := hD.sub (ws' := []) [] (by decide) rfl
      have hFc := va_free (wc := []) hD hS hA [] rfl
      refine va_calli (va_runS (As := [.long (Int32.toInt64 p5), .long (1 : Int64), .long (8 : Int64)]) (rest := []) ⟨hx, hb, hml, hown, hts⟩ (mt_X0_isIn l G  H.size  (Int32.toInt64 p5) (1 : Int64) (8 : Int64) _ hw) (va_cwS 3 hts (lw_S q316 q317 q54 q318) rfl rfl rfl (by decide +kernel) ⟨Nat.le_of_ble_eq_true rfl, Nat.le_of_ble_eq_true rfl⟩) ⟨fun a U g mk q => by obtain ⟨q0, q1, qP, qK, qD⟩ := q; exact ⟨q0, q1, qP, qK.call, qD⟩, fun U hU hW => ⟨rfl, by rw [hU], by rw [hU]; exact hPc, hK.warm hW, hDc.weaken (fun _ _ _ _ => trivial)⟩⟩ rfl rfl hl.1 rfl (lv_room (Nat.le_of_ble_eq_true rfl)) dX0_failed_23 ⟨Nat.le_of_ble_eq_true rfl, Nat.le_of_ble_eq_true rfl⟩) hS (fun q _ h => hFc q h) hFc (fun r_5 _ t H1 locs ht hvm hw hB hz1 hk1 hS => ?_)
      obtain ⟨hP1, hD1⟩ := hB
      rw [ht] at hP1
      obtain ⟨hP, hD⟩ := va_join (wr := [ar G h_kinds 5 5 [h_kinds_0, h_kinds_1, h_kinds_2, h_kinds_3, h_kinds_4], oc h_kinds_0 1 [], oc h_kinds_1 2 [], oc h_kinds_2 3 [], oc h_kinds_3 4 [], oc h_kinds_4 5 [], ai G h_failing 6 failing, oc h_aside 6 [.ref h_aside_0, .ref h_aside_1, .ref h_aside_2, .ref h_aside_3, .int (mn aside), .int (ma aside), .int (yr aside), .int (dw aside)], ai G h_aside_0 6 (kd aside), ai G h_aside_1 18 (pl aside), ai G h_aside_2 6 (lf aside), ai G h_aside_3 6 (se aside), arf G h_sheets 7 4 shf, oc h_sheets_x 8 [.ref h_sheets_x_r], ay G h_sheets_x_r rn rw, oc h 0 [.ref h_kinds, .ref h_now, .ref h_fault, .ref h_tape, .int taped, .int reads, .ref h_got, .ref h_failing, .ref h_past, .int undoMany, .ref h_aside, .ref h_best, .ref h_tried, .ref h_kept, .ref h_keptPast, .int keptMany, .int isKept, .ref h_sheets], oc h_now 6 [.ref h_now_0, .ref h_now_1, .ref h_now_2, .ref h_now_3, .int (mn now), .int (ma now), .int (yr now), .int (dw now)], ai G h_now_0 6 (kd now), ai G h_now_1 18 (pl now), ai G h_now_2 6 (lf now), ai G h_now_3 6 (se now)]) (w1 := []) hP hD [] [0, 1, 2, 3, 4, 5, 6, 7, 8, 9, 10, 11, 12, 13, 14, 15, 16, 17, 18, 19, 20] rfl rfl (by decide) (by decide) hk1 hFc hP1 hD1
      clear hPc hDc hFc hP1 hD1 hz1 hk1 hvm
      generalize H1 = H at hP hS ⊢
      have hP : va_P G.1 gCl [ar G h_kinds 5 5 [h_kinds_0, h_kinds_1, h_kinds_2, h_kinds_3, h_kinds_4], oc h_kinds_0 1 [], oc h_kinds_1 2 [], oc h_kinds_2 3 [], oc h_kinds_3 4 [], oc h_kinds_4 5 [], ai G h_failing 6 failing, oc h_aside 6 [.ref h_aside_0, .ref h_aside_1, .ref h_aside_2, .ref h_aside_3, .int (mn aside), .int (ma aside), .int (yr aside), .int (dw aside)], ai G h_aside_0 6 (kd aside), ai G h_aside_1 18 (pl aside), ai G h_aside_2 6 (lf aside), ai G h_aside_3 6 (se aside), arf G h_sheets 7 4 shf, oc h_sheets_x 8 [.ref h_sheets_x_r], ay G h_sheets_x_r rn rw, oc h 0 [.ref h_kinds, .ref h_now, .ref h_fault, .ref h_tape, .int taped, .int reads, .ref h_got, .ref h_failing, .ref h_past, .int undoMany, .ref h_aside, .ref h_best, .ref h_tried, .ref h_kept, .ref h_keptPast, .int keptMany, .int isKept, .ref h_sheets], oc h_now 6 [.ref h_now_0, .ref h_now_1, .ref h_now_2, .ref h_now_3, .int (mn now), .int (ma now), .int (yr now), .int (dw now)], ai G h_now_0 6 (kd now), ai G h_now_1 18 (pl now), ai G h_now_2 6 (lf now), ai G h_now_3 6 (se now)] H := hP
      have hD : va_D A [ar G h_kinds 5 5 [h_kinds_0, h_kinds_1, h_kinds_2, h_kinds_3, h_kinds_4], oc h_kinds_0 1 [], oc h_kinds_1 2 [], oc h_kinds_2 3 [], oc h_kinds_3 4 [], oc h_kinds_4 5 [], ai G h_failing 6 failing, oc h_aside 6 [.ref h_aside_0, .ref h_aside_1, .ref h_aside_2, .ref h_aside_3, .int (mn aside), .int (ma aside), .int (yr aside), .int (dw aside)], ai G h_aside_0 6 (kd aside), ai G h_aside_1 18 (pl aside), ai G h_aside_2 6 (lf aside), ai G h_aside_3 6 (se aside), arf G h_sheets 7 4 shf, oc h_sheets_x 8 [.ref h_sheets_x_r], ay G h_sheets_x_r rn rw, oc h 0 [.ref h_kinds, .ref h_now, .ref h_fault, .ref h_tape, .int taped, .int reads, .ref h_got, .ref h_failing, .ref h_past, .int undoMany, .ref h_aside, .ref h_best, .ref h_tried, .ref h_kept, .ref h_keptPast, .int keptMany, .int isKept, .ref h_sheets], oc h_now 6 [.ref h_now_0, .ref h_now_1, .ref h_now_2, .ref h_now_3, .int (mn now), .int (ma now), .int (yr now), .int (dw now)], ai G h_now_0 6 (kd now), ai G h_now_1 18 (pl now), ai G h_now_2 6 (lf now), ai G h_now_3 6 (se now)] := hD
      refine lv_if_eq (tgt := 42) hx hb dX0_failed_26 (by decide) (fun c_6 => ?_) (fun c_6 => ?_)
      · replace hw := hw.1 c_6
        refine lv_iconst (v := (-1 : Int32)) hx hb dX0_failed_42 (by decide) ?_
        have hP9 := hP.sub (ws' := [oc h 0 [.ref h_kinds, .ref h_now, .ref h_fault, .ref h_tape, .int taped, .int reads, .ref h_got, .ref h_failing, .ref h_past, .int undoMany, .ref h_aside, .ref h_best, .ref h_tried, .ref h_kept, .ref h_keptPast, .int keptMany, .int isKept, .ref h_sheets], ar G h_kinds 5 5 [h_kinds_0, h_kinds_1, h_kinds_2, h_kinds_3, h_kinds_4], oc h_kinds_0 1 [], oc h_kinds_1 2 [], oc h_kinds_2 3 [], oc h_kinds_3 4 [], oc h_kinds_4 5 [], oc h_now 6 [.ref h_now_0, .ref h_now_1, .ref h_now_2, .ref h_now_3, .int (mn now), .int (ma now), .int (yr now), .int (dw now)], ai G h_now_0 6 (kd now), ai G h_now_1 18 (pl now), ai G h_now_2 6 (lf now), ai G h_now_3 6 (se now), ai G h_failing 6 failing, oc h_aside 6 [.ref h_aside_0, .ref h_aside_1, .ref h_aside_2, .ref h_aside_3, .int (mn aside), .int (ma aside), .int (yr aside), .int (dw aside)], ai G h_aside_0 6 (kd aside), ai G h_aside_1 18 (pl aside), ai G h_aside_2 6 (lf aside), ai G h_aside_3 6 (se aside), arf G h_sheets 7 4 shf, oc h_sheets_x 8 [.ref h_sheets_x_r], ay G h_sheets_x_r rn rw]) [15, 0, 1, 2, 3, 4, 5, 16, 17, 18, 19, 20, 6, 7, 8, 9, 10, 11, 12, 13, 14] rfl
        have hD9 := hD.sub (ws' := [oc h 0 [.ref h_kinds, .ref h_now, .ref h_fault, .ref h_tape, .int taped, .int reads, .ref h_got, .ref h_failing, .ref h_past, .int undoMany, .ref h_aside, .ref h_best, .ref h_tried, .ref h_kept, .ref h_keptPast, .int keptMany, .int isKept, .ref h_sheets], ar G h_kinds 5 5 [h_kinds_0, h_kinds_1, h_kinds_2, h_kinds_3, h_kinds_4], oc h_kinds_0 1 [], oc h_kinds_1 2 [], oc h_kinds_2 3 [], oc h_kinds_3 4 [], oc h_kinds_4 5 [], oc h_now 6 [.ref h_now_0, .ref h_now_1, .ref h_now_2, .ref h_now_3, .int (mn now), .int (ma now), .int (yr now), .int (dw now)], ai G h_now_0 6 (kd now), ai G h_now_1 18 (pl now), ai G h_now_2 6 (lf now), ai G h_now_3 6 (se now), ai G h_failing 6 failing, oc h_aside 6 [.ref h_aside_0, .ref h_aside_1, .ref h_aside_2, .ref h_aside_3, .int (mn aside), .int (ma aside), .int (yr aside), .int (dw aside)], ai G h_aside_0 6 (kd aside), ai G h_aside_1 18 (pl aside), ai G h_aside_2 6 (lf aside), ai G h_aside_3 6 (se aside), arf G h_sheets 7 4 shf, oc h_sheets_x 8 [.ref h_sheets_x_r], ay G h_sheets_x_r rn rw]) [15, 0, 1, 2, 3, 4, 5, 16, 17, 18, 19, 20, 6, 7, 8, 9, 10, 11, 12, 13, 14] (by decide) rfl
        exact W.iret (v := (-1 : Int32)) hx hb hr (fun t ht hW => ⟨⟨(-1 : Int32), (now, failing, aside), rfl, hw, by rw [ht]; exact hP9, hD9⟩, hS.F ht⟩) hS.2.2 dX0_failed_43
      · replace hw := hw.2 c_6
        refine lv_iload hx hb dX0_failed_29 (lv_at hl 6 rfl) ?_
        refine lv_i2l hx hb dX0_failed_31 rfl ?_
        refine lv_lconst (v := (0 : Int64)) hx hb dX0_failed_32 (by decide) ?_
        refine lv_ldc2 (v := (2 : Int64)) hx hb hown (hts _ q343) dX0_failed_33 ?_
        have hPc := hP.sub (ws' := []) [] rfl
        have hDc := hD.sub (ws' := []) [] (by decide) rfl
        have hFc := va_free (wc := []) hD hS hA [] rfl
        refine va_calli (va_runS (As := [.long (Int32.toInt64 p6), .long (0 : Int64), .long (2 : Int64)]) (rest := []) ⟨hx, hb, hml, hown, hts⟩ (mt_X0_isIn l G  H.size  (Int32.toInt64 p6) (0 : Int64) (2 : Int64) _ hw) (va_cwS 3 hts (lw_S q316 q317 q54 q318) rfl rfl rfl (by decide +kernel) ⟨Nat.le_of_ble_eq_true rfl, Nat.le_of_ble_eq_true rfl⟩) ⟨fun a U g mk q => by obtain ⟨q0, q1, qP, qK, qD⟩ := q; exact ⟨q0, q1, qP, qK.call, qD⟩, fun U hU hW => ⟨rfl, by rw [hU], by rw [hU]; exact hPc, hK.warm hW, hDc.weaken (fun _ _ _ _ => trivial)⟩⟩ rfl rfl hl.1 rfl (lv_room (Nat.le_of_ble_eq_true rfl)) dX0_failed_36 ⟨Nat.le_of_ble_eq_true rfl, Nat.le_of_ble_eq_true rfl⟩) hS (fun q _ h => hFc q h) hFc (fun r_7 _ t H1 locs ht hvm hw hB hz1 hk1 hS => ?_)
        obtain ⟨hP1, hD1⟩ := hB
        rw [ht] at hP1
        obtain ⟨hP, hD⟩ := va_join (wr := [ar G h_kinds 5 5 [h_kinds_0, h_kinds_1, h_kinds_2, h_kinds_3, h_kinds_4], oc h_kinds_0 1 [], oc h_kinds_1 2 [], oc h_kinds_2 3 [], oc h_kinds_3 4 [], oc h_kinds_4 5 [], ai G h_failing 6 failing, oc h_aside 6 [.ref h_aside_0, .ref h_aside_1, .ref h_aside_2, .ref h_aside_3, .int (mn aside), .int (ma aside), .int (yr aside), .int (dw aside)], ai G h_aside_0 6 (kd aside), ai G h_aside_1 18 (pl aside), ai G h_aside_2 6 (lf aside), ai G h_aside_3 6 (se aside), arf G h_sheets 7 4 shf, oc h_sheets_x 8 [.ref h_sheets_x_r], ay G h_sheets_x_r rn rw, oc h 0 [.ref h_kinds, .ref h_now, .ref h_fault, .ref h_tape, .int taped, .int reads, .ref h_got, .ref h_failing, .ref h_past, .int undoMany, .ref h_aside, .ref h_best, .ref h_tried, .ref h_kept, .ref h_keptPast, .int keptMany, .int isKept, .ref h_sheets], oc h_now 6 [.ref h_now_0, .ref h_now_1, .ref h_now_2, .ref h_now_3, .int (mn now), .int (ma now), .int (yr now), .int (dw now)], ai G h_now_0 6 (kd now), ai G h_now_1 18 (pl now), ai G h_now_2 6 (lf now), ai G h_now_3 6 (se now)]) (w1 := []) hP hD [] [0, 1, 2, 3, 4, 5, 6, 7, 8, 9, 10, 11, 12, 13, 14, 15, 16, 17, 18, 19, 20] rfl rfl (by decide) (by decide) hk1 hFc hP1 hD1
        clear hPc hDc hFc hP1 hD1 hz1 hk1 hvm
        generalize H1 = H at hP hS ⊢
        have hP : va_P G.1 gCl [ar G h_kinds 5 5 [h_kinds_0, h_kinds_1, h_kinds_2, h_kinds_3, h_kinds_4], oc h_kinds_0 1 [], oc h_kinds_1 2 [], oc h_kinds_2 3 [], oc h_kinds_3 4 [], oc h_kinds_4 5 [], ai G h_failing 6 failing, oc h_aside 6 [.ref h_aside_0, .ref h_aside_1, .ref h_aside_2, .ref h_aside_3, .int (mn aside), .int (ma aside), .int (yr aside), .int (dw aside)], ai G h_aside_0 6 (kd aside), ai G h_aside_1 18 (pl aside), ai G h_aside_2 6 (lf aside), ai G h_aside_3 6 (se aside), arf G h_sheets 7 4 shf, oc h_sheets_x 8 [.ref h_sheets_x_r], ay G h_sheets_x_r rn rw, oc h 0 [.ref h_kinds, .ref h_now, .ref h_fault, .ref h_tape, .int taped, .int reads, .ref h_got, .ref h_failing, .ref h_past, .int undoMany, .ref h_aside, .ref h_best, .ref h_tried, .ref h_kept, .ref h_keptPast, .int keptMany, .int isKept, .ref h_sheets], oc h_now 6 [.ref h_now_0, .ref h_now_1, .ref h_now_2, .ref h_now_3, .int (mn now), .int (ma now), .int (yr now), .int (dw now)], ai G h_now_0 6 (kd now), ai G h_now_1 18 (pl now), ai G h_now_2 6 (lf now), ai G h_now_3 6 (se now)] H := hP
        have hD : va_D A [ar G h_kinds 5 5 [h_kinds_0, h_kinds_1, h_kinds_2, h_kinds_3, h_kinds_4], oc h_kinds_0 1 [], oc h_kinds_1 2 [], oc h_kinds_2 3 [], oc h_kinds_3 4 [], oc h_kinds_4 5 [], ai G h_failing 6 failing, oc h_aside 6 [.ref h_aside_0, .ref h_aside_1, .ref h_aside_2, .ref h_aside_3, .int (mn aside), .int (ma aside), .int (yr aside), .int (dw aside)], ai G h_aside_0 6 (kd aside), ai G h_aside_1 18 (pl aside), ai G h_aside_2 6 (lf aside), ai G h_aside_3 6 (se aside), arf G h_sheets 7 4 shf, oc h_sheets_x 8 [.ref h_sheets_x_r], ay G h_sheets_x_r rn rw, oc h 0 [.ref h_kinds, .ref h_now, .ref h_fault, .ref h_tape, .int taped, .int reads, .ref h_got, .ref h_failing, .ref h_past, .int undoMany, .ref h_aside, .ref h_best, .ref h_tried, .ref h_kept, .ref h_keptPast, .int keptMany, .int isKept, .ref h_sheets], oc h_now 6 [.ref h_now_0, .ref h_now_1, .ref h_now_2, .ref h_now_3, .int (mn now), .int (ma now), .int (yr now), .int (dw now)], ai G h_now_0 6 (kd now), ai G h_now_1 18 (pl now), ai G h_now_2 6 (lf now), ai G h_now_3 6 (se now)] := hD
        refine lv_if_ne (tgt := 44) hx hb dX0_failed_39 (by decide) (fun c_8 => ?_) (fun c_8 => ?_)
        · replace hw := hw.1 c_8
          refine lv_aload_n hx hb dX0_failed_44 rfl (lv_at hl 0 rfl) ?_
          refine lv_iload_n hx hb dX0_failed_45 rfl (lv_at hl 2 rfl) ?_
          refine lv_iload_n hx hb dX0_failed_46 rfl (lv_at hl 3 rfl) ?_
          refine lv_iload hx hb dX0_failed_47 (lv_at hl 4 rfl) ?_
          refine lv_iload hx hb dX0_failed_49 (lv_at hl 5 rfl) ?_
          have hPc := hP.sub (ws' := [oc h 0 [.ref h_kinds, .ref h_now, .ref h_fault, .ref h_tape, .int taped, .int reads, .ref h_got, .ref h_failing, .ref h_past, .int undoMany, .ref h_aside, .ref h_best, .ref h_tried, .ref h_kept, .ref h_keptPast, .int keptMany, .int isKept, .ref h_sheets], arf G h_sheets 7 4 shf, oc h_sheets_x 8 [.ref h_sheets_x_r], ay G h_sheets_x_r rn rw]) [15, 12, 13, 14] rfl
          have hDc := hD.sub (ws' := [oc h 0 [.ref h_kinds, .ref h_now, .ref h_fault, .ref h_tape, .int taped, .int reads, .ref h_got, .ref h_failing, .ref h_past, .int undoMany, .ref h_aside, .ref h_best, .ref h_tried, .ref h_kept, .ref h_keptPast, .int keptMany, .int isKept, .ref h_sheets], arf G h_sheets 7 4 shf, oc h_sheets_x 8 [.ref h_sheets_x_r], ay G h_sheets_x_r rn rw]) [15, 12, 13, 14] (by decide) rfl
          have hFc := va_free (wc := [oc h 0 [.ref h_kinds, .ref h_now, .ref h_fault, .ref h_tape, .int taped, .int reads, .ref h_got, .ref h_failing, .ref h_past, .int undoMany, .ref h_aside, .ref h_best, .ref h_tried, .ref h_kept, .ref h_keptPast, .int keptMany, .int isKept, .ref h_sheets], arf G h_sheets 7 4 shf, oc h_sheets_x 8 [.ref h_sheets_x_r], ay G h_sheets_x_r rn rw]) hD hS hA [15, 12, 13, 14] rfl
          refine va_calli (va_runV (As := [.int p2, .int p3, .int p4, .int p5]) (rest := []) ⟨hx, hb, hml, hown, hts⟩ (mt_X0_lacks_B l G h h_kinds h_now h_fault h_tape h_got h_failing h_past h_aside h_best h_tried h_kept h_keptPast h_sheets h_sheets_x h_sheets_x_r shf H.size taped reads undoMany keptMany isKept rn rw p2 p3 p4 p5 hsh _ hw) (cwV 4 hts (lw_V q653 q655 qs23 q54 q656) rfl rfl rfl (by decide +kernel) ⟨Nat.le_of_ble_eq_true rfl, Nat.le_of_ble_eq_true rfl⟩) ⟨fun a U g mk q => by obtain ⟨q0, q1, qP, qK, qD⟩ := q; exact ⟨q0, q1, qP, qK.call, qD⟩, va_recv hK.1 hP (ci := 0) (q0 := 15) rfl rfl, fun U hU hW => ⟨rfl, by rw [hU], by rw [hU]; exact hPc, hK.warm hW, hDc.weaken (fun _ _ _ _ => trivial)⟩⟩ rfl rfl hl.1 rfl (lv_room (Nat.le_of_ble_eq_true rfl)) dX0_failed_51 ⟨Nat.le_of_ble_eq_true rfl, Nat.le_of_ble_eq_true rfl⟩) hS (fun q _ h => hFc q h) hFc (fun r_9 _ t H1 locs ht hvm hw hB hz1 hk1 hS => ?_)
          obtain ⟨hP1, hD1⟩ := hB
          rw [ht] at hP1
          obtain ⟨hP, hD⟩ := va_join (wr := [ar G h_kinds 5 5 [h_kinds_0, h_kinds_1, h_kinds_2, h_kinds_3, h_kinds_4], oc h_kinds_0 1 [], oc h_kinds_1 2 [], oc h_kinds_2 3 [], oc h_kinds_3 4 [], oc h_kinds_4 5 [], ai G h_failing 6 failing, oc h_aside 6 [.ref h_aside_0, .ref h_aside_1, .ref h_aside_2, .ref h_aside_3, .int (mn aside), .int (ma aside), .int (yr aside), .int (dw aside)], ai G h_aside_0 6 (kd aside), ai G h_aside_1 18 (pl aside), ai G h_aside_2 6 (lf aside), ai G h_aside_3 6 (se aside), oc h_now 6 [.ref h_now_0, .ref h_now_1, .ref h_now_2, .ref h_now_3, .int (mn now), .int (ma now), .int (yr now), .int (dw now)], ai G h_now_0 6 (kd now), ai G h_now_1 18 (pl now), ai G h_now_2 6 (lf now), ai G h_now_3 6 (se now)]) (w1 := [oc h 0 [.ref h_kinds, .ref h_now, .ref h_fault, .ref h_tape, .int taped, .int reads, .ref h_got, .ref h_failing, .ref h_past, .int undoMany, .ref h_aside, .ref h_best, .ref h_tried, .ref h_kept, .ref h_keptPast, .int keptMany, .int isKept, .ref h_sheets], arf G h_sheets 7 4 shf, oc h_sheets_x 8 [.ref h_sheets_x_r], ay G h_sheets_x_r rn rw]) hP hD [15, 12, 13, 14] [0, 1, 2, 3, 4, 5, 6, 7, 8, 9, 10, 11, 16, 17, 18, 19, 20] rfl rfl (by decide) (by decide) hk1 hFc hP1 hD1
          clear hPc hDc hFc hP1 hD1 hz1 hk1 hvm
          generalize H1 = H at hP hS ⊢
          have hP : va_P G.1 gCl [ar G h_kinds 5 5 [h_kinds_0, h_kinds_1, h_kinds_2, h_kinds_3, h_kinds_4], oc h_kinds_0 1 [], oc h_kinds_1 2 [], oc h_kinds_2 3 [], oc h_kinds_3 4 [], oc h_kinds_4 5 [], ai G h_failing 6 failing, oc h_aside 6 [.ref h_aside_0, .ref h_aside_1, .ref h_aside_2, .ref h_aside_3, .int (mn aside), .int (ma aside), .int (yr aside), .int (dw aside)], ai G h_aside_0 6 (kd aside), ai G h_aside_1 18 (pl aside), ai G h_aside_2 6 (lf aside), ai G h_aside_3 6 (se aside), oc h_now 6 [.ref h_now_0, .ref h_now_1, .ref h_now_2, .ref h_now_3, .int (mn now), .int (ma now), .int (yr now), .int (dw now)], ai G h_now_0 6 (kd now), ai G h_now_1 18 (pl now), ai G h_now_2 6 (lf now), ai G h_now_3 6 (se now), oc h 0 [.ref h_kinds, .ref h_now, .ref h_fault, .ref h_tape, .int taped, .int reads, .ref h_got, .ref h_failing, .ref h_past, .int undoMany, .ref h_aside, .ref h_best, .ref h_tried, .ref h_kept, .ref h_keptPast, .int keptMany, .int isKept, .ref h_sheets], arf G h_sheets 7 4 shf, oc h_sheets_x 8 [.ref h_sheets_x_r], ay G h_sheets_x_r rn rw] H := hP
          have hD : va_D A [ar G h_kinds 5 5 [h_kinds_0, h_kinds_1, h_kinds_2, h_kinds_3, h_kinds_4], oc h_kinds_0 1 [], oc h_kinds_1 2 [], oc h_kinds_2 3 [], oc h_kinds_3 4 [], oc h_kinds_4 5 [], ai G h_failing 6 failing, oc h_aside 6 [.ref h_aside_0, .ref h_aside_1, .ref h_aside_2, .ref h_aside_3, .int (mn aside), .int (ma aside), .int (yr aside), .int (dw aside)], ai G h_aside_0 6 (kd aside), ai G h_aside_1 18 (pl aside), ai G h_aside_2 6 (lf aside), ai G h_aside_3 6 (se aside), oc h_now 6 [.ref h_now_0, .ref h_now_1, .ref h_now_2, .ref h_now_3, .int (mn now), .int (ma now), .int (yr now), .int (dw now)], ai G h_now_0 6 (kd now), ai G h_now_1 18 (pl now), ai G h_now_2 6 (lf now), ai G h_now_3 6 (se now), oc h 0 [.ref h_kinds, .ref h_now, .ref h_fault, .ref h_tape, .int taped, .int reads, .ref h_got, .ref h_failing, .ref h_past, .int undoMany, .ref h_aside, .ref h_best, .ref h_tried, .ref h_kept, .ref h_keptPast, .int keptMany, .int isKept, .ref h_sheets], arf G h_sheets 7 4 shf, oc h_sheets_x 8 [.ref h_sheets_x_r], ay G h_sheets_x_r rn rw] := hD
          refine lv_istore (lv' := [(7, .int r_9), (0, .ref h), (1, .int p1), (2, .int p2), (3, .int p3), (4, .int p4), (5, .int p5), (6, .int p6)]) hx hb dX0_failed_54 hl (by decide) rfl (fun ls hl => ?_)
          refine lv_iload hx hb dX0_failed_56 (lv_at hl 0 rfl) ?_
          refine lv_if_ge (tgt := 64) hx hb dX0_failed_58 (by decide) (fun c_10 => ?_) (fun c_10 => ?_)
          · replace hw := hw.1 c_10
            refine lv_aload_n hx hb dX0_failed_64 rfl (lv_at hl 1 rfl) ?_
            refine va_get (D := G.1) (ci := 0) (v := .ref h_now) (C := RX0) (T := TX0) (N := 18) hx hb hts in_X0 hown hK.1 hP 17 rfl rfl 1 (by decide) (hts _ q257) (fun _ h9 => h9) rfl dX0_failed_65 ?_
            refine lv_iload_n hx hb dX0_failed_68 rfl (lv_at hl 2 rfl) ?_
            have hPc := hP.sub (ws' := [oc h_now 6 [.ref h_now_0, .ref h_now_1, .ref h_now_2, .ref h_now_3, .int (mn now), .int (ma now), .int (yr now), .int (dw now)], ai G h_now_0 6 (kd now), ai G h_now_1 18 (pl now), ai G h_now_2 6 (lf now), ai G h_now_3 6 (se now)]) [12, 13, 14, 15, 16] rfl
            have hDc := hD.sub (ws' := [oc h_now 6 [.ref h_now_0, .ref h_now_1, .ref h_now_2, .ref h_now_3, .int (mn now), .int (ma now), .int (yr now), .int (dw now)], ai G h_now_0 6 (kd now), ai G h_now_1 18 (pl now), ai G h_now_2 6 (lf now), ai G h_now_3 6 (se now)]) [12, 13, 14, 15, 16] (by decide) rfl
            have hFc := va_free (wc := [oc h_now 6 [.ref h_now_0, .ref h_now_1, .ref h_now_2, .ref h_now_3, .int (mn now), .int (ma now), .int (yr now), .int (dw now)], ai G h_now_0 6 (kd now), ai G h_now_1 18 (pl now), ai G h_now_2 6 (lf now), ai G h_now_3 6 (se now)]) hD hS hA [12, 13, 14, 15, 16] rfl
            refine va_calli (va_runV (As := [.int p1]) (rest := []) ⟨hx, hb, hml, hown, hts⟩ (mt_X6_seatOf l G h_now h_now_0 h_now_1 h_now_2 h_now_3 H.size now p1 _ hw) (cwV 1 hts (lw_V q350 q351 q352 q60 q353) rfl rfl rfl (by decide +kernel) ⟨Nat.le_of_ble_eq_true rfl, Nat.le_of_ble_eq_true rfl⟩) ⟨fun a U g mk q => by obtain ⟨q0, q1, qP, qK, qD⟩ := q; exact ⟨q0, q1, qP, qK.call, qD⟩, va_recv hK.1 hP (ci := 6) (q0 := 12) rfl rfl, fun U hU hW => ⟨rfl, by rw [hU], by rw [hU]; exact hPc, hK.warm hW, hDc.weaken (fun _ _ _ _ => trivial)⟩⟩ rfl rfl hl.1 rfl (lv_room (Nat.le_of_ble_eq_true rfl)) dX0_failed_69 ⟨Nat.le_of_ble_eq_true rfl, Nat.le_of_ble_eq_true rfl⟩) hS (fun q _ h => hFc q h) hFc (fun r_11 _ t H1 locs ht hvm hw hB hz1 hk1 hS => ?_)
            obtain ⟨hP1, hD1⟩ := hB
            rw [ht] at hP1
            obtain ⟨hP, hD⟩ := va_join (wr := [ar G h_kinds 5 5 [h_kinds_0, h_kinds_1, h_kinds_2, h_kinds_3, h_kinds_4], oc h_kinds_0 1 [], oc h_kinds_1 2 [], oc h_kinds_2 3 [], oc h_kinds_3 4 [], oc h_kinds_4 5 [], ai G h_failing 6 failing, oc h_aside 6 [.ref h_aside_0, .ref h_aside_1, .ref h_aside_2, .ref h_aside_3, .int (mn aside), .int (ma aside), .int (yr aside), .int (dw aside)], ai G h_aside_0 6 (kd aside), ai G h_aside_1 18 (pl aside), ai G h_aside_2 6 (lf aside), ai G h_aside_3 6 (se aside), oc h 0 [.ref h_kinds, .ref h_now, .ref h_fault, .ref h_tape, .int taped, .int reads, .ref h_got, .ref h_failing, .ref h_past, .int undoMany, .ref h_aside, .ref h_best, .ref h_tried, .ref h_kept, .ref h_keptPast, .int keptMany, .int isKept, .ref h_sheets], arf G h_sheets 7 4 shf, oc h_sheets_x 8 [.ref h_sheets_x_r], ay G h_sheets_x_r rn rw]) (w1 := [oc h_now 6 [.ref h_now_0, .ref h_now_1, .ref h_now_2, .ref h_now_3, .int (mn now), .int (ma now), .int (yr now), .int (dw now)], ai G h_now_0 6 (kd now), ai G h_now_1 18 (pl now), ai G h_now_2 6 (lf now), ai G h_now_3 6 (se now)]) hP hD [12, 13, 14, 15, 16] [0, 1, 2, 3, 4, 5, 6, 7, 8, 9, 10, 11, 17, 18, 19, 20] rfl rfl (by decide) (by decide) hk1 hFc hP1 hD1
            clear hPc hDc hFc hP1 hD1 hz1 hk1 hvm
            generalize H1 = H at hP hS ⊢
            have hP : va_P G.1 gCl [ar G h_kinds 5 5 [h_kinds_0, h_kinds_1, h_kinds_2, h_kinds_3, h_kinds_4], oc h_kinds_0 1 [], oc h_kinds_1 2 [], oc h_kinds_2 3 [], oc h_kinds_3 4 [], oc h_kinds_4 5 [], ai G h_failing 6 failing, oc h_aside 6 [.ref h_aside_0, .ref h_aside_1, .ref h_aside_2, .ref h_aside_3, .int (mn aside), .int (ma aside), .int (yr aside), .int (dw aside)], ai G h_aside_0 6 (kd aside), ai G h_aside_1 18 (pl aside), ai G h_aside_2 6 (lf aside), ai G h_aside_3 6 (se aside), oc h 0 [.ref h_kinds, .ref h_now, .ref h_fault, .ref h_tape, .int taped, .int reads, .ref h_got, .ref h_failing, .ref h_past, .int undoMany, .ref h_aside, .ref h_best, .ref h_tried, .ref h_kept, .ref h_keptPast, .int keptMany, .int isKept, .ref h_sheets], arf G h_sheets 7 4 shf, oc h_sheets_x 8 [.ref h_sheets_x_r], ay G h_sheets_x_r rn rw, oc h_now 6 [.ref h_now_0, .ref h_now_1, .ref h_now_2, .ref h_now_3, .int (mn now), .int (ma now), .int (yr now), .int (dw now)], ai G h_now_0 6 (kd now), ai G h_now_1 18 (pl now), ai G h_now_2 6 (lf now), ai G h_now_3 6 (se now)] H := hP
            have hD : va_D A [ar G h_kinds 5 5 [h_kinds_0, h_kinds_1, h_kinds_2, h_kinds_3, h_kinds_4], oc h_kinds_0 1 [], oc h_kinds_1 2 [], oc h_kinds_2 3 [], oc h_kinds_3 4 [], oc h_kinds_4 5 [], ai G h_failing 6 failing, oc h_aside 6 [.ref h_aside_0, .ref h_aside_1, .ref h_aside_2, .ref h_aside_3, .int (mn aside), .int (ma aside), .int (yr aside), .int (dw aside)], ai G h_aside_0 6 (kd aside), ai G h_aside_1 18 (pl aside), ai G h_aside_2 6 (lf aside), ai G h_aside_3 6 (se aside), oc h 0 [.ref h_kinds, .ref h_now, .ref h_fault, .ref h_tape, .int taped, .int reads, .ref h_got, .ref h_failing, .ref h_past, .int undoMany, .ref h_aside, .ref h_best, .ref h_tried, .ref h_kept, .ref h_keptPast, .int keptMany, .int isKept, .ref h_sheets], arf G h_sheets 7 4 shf, oc h_sheets_x 8 [.ref h_sheets_x_r], ay G h_sheets_x_r rn rw, oc h_now 6 [.ref h_now_0, .ref h_now_1, .ref h_now_2, .ref h_now_3, .int (mn now), .int (ma now), .int (yr now), .int (dw now)], ai G h_now_0 6 (kd now), ai G h_now_1 18 (pl now), ai G h_now_2 6 (lf now), ai G h_now_3 6 (se now)] := hD
            refine lv_if_ge (tgt := 78) hx hb dX0_failed_72 (by decide) (fun c_12 => ?_) (fun c_12 => ?_)
            · replace hw := hw.1 c_12
              refine lv_aload_n hx hb dX0_failed_78 rfl (lv_at hl 1 rfl) ?_
              refine va_get (D := G.1) (ci := 0) (v := .ref h_aside) (C := RX0) (T := TX0) (N := 18) hx hb hts in_X0 hown hK.1 hP 12 rfl rfl 10 (by decide) (hts _ q266) (fun _ h9 => h9) rfl dX0_failed_79 ?_
              refine lv_aload_n hx hb dX0_failed_82 rfl (lv_at hl 1 rfl) ?_
              refine va_get (D := G.1) (ci := 0) (v := .ref h_now) (C := RX0) (T := TX0) (N := 18) hx hb hts in_X0 hown hK.1 hP 12 rfl rfl 1 (by decide) (hts _ q257) (fun _ h9 => h9) rfl dX0_failed_83 ?_
              have hPc := hP.sub (ws' := [oc h_aside 6 [.ref h_aside_0, .ref h_aside_1, .ref h_aside_2, .ref h_aside_3, .int (mn aside), .int (ma aside), .int (yr aside), .int (dw aside)], ai G h_aside_0 6 (kd aside), ai G h_aside_1 18 (pl aside), ai G h_aside_2 6 (lf aside), ai G h_aside_3 6 (se aside), oc h_now 6 [.ref h_now_0, .ref h_now_1, .ref h_now_2, .ref h_now_3, .int (mn now), .int (ma now), .int (yr now), .int (dw now)], ai G h_now_0 6 (kd now), ai G h_now_1 18 (pl now), ai G h_now_2 6 (lf now), ai G h_now_3 6 (se now)]) [7, 8, 9, 10, 11, 16, 17, 18, 19, 20] rfl
              have hDc := hD.sub (ws' := [oc h_aside 6 [.ref h_aside_0, .ref h_aside_1, .ref h_aside_2, .ref h_aside_3, .int (mn aside), .int (ma aside), .int (yr aside), .int (dw aside)], ai G h_aside_0 6 (kd aside), ai G h_aside_1 18 (pl aside), ai G h_aside_2 6 (lf aside), ai G h_aside_3 6 (se aside), oc h_now 6 [.ref h_now_0, .ref h_now_1, .ref h_now_2, .ref h_now_3, .int (mn now), .int (ma now), .int (yr now), .int (dw now)], ai G h_now_0 6 (kd now), ai G h_now_1 18 (pl now), ai G h_now_2 6 (lf now), ai G h_now_3 6 (se now)]) [7, 8, 9, 10, 11, 16, 17, 18, 19, 20] (by decide) rfl
              have hFc := va_free (wc := [oc h_aside 6 [.ref h_aside_0, .ref h_aside_1, .ref h_aside_2, .ref h_aside_3, .int (mn aside), .int (ma aside), .int (yr aside), .int (dw aside)], ai G h_aside_0 6 (kd aside), ai G h_aside_1 18 (pl aside), ai G h_aside_2 6 (lf aside), ai G h_aside_3 6 (se aside), oc h_now 6 [.ref h_now_0, .ref h_now_1, .ref h_now_2, .ref h_now_3, .int (mn now), .int (ma now), .int (yr now), .int (dw now)], ai G h_now_0 6 (kd now), ai G h_now_1 18 (pl now), ai G h_now_2 6 (lf now), ai G h_now_3 6 (se now)]) hD hS hA [7, 8, 9, 10, 11, 16, 17, 18, 19, 20] rfl
              refine va_callv (va_runV (As := [.ref h_now]) (rest := []) ⟨hx, hb, hml, hown, hts⟩ (mt_X6_takeFrom l G h_aside h_aside_0 h_aside_1 h_aside_2 h_aside_3 h_now h_now_0 h_now_1 h_now_2 h_now_3 H.size aside now  _ hw) (cwV 1 hts (lw_V q434 q435 q436 q60 q437) rfl rfl rfl (by decide +kernel) ⟨Nat.le_of_ble_eq_true rfl, Nat.le_of_ble_eq_true rfl⟩) ⟨fun a U g mk q => by obtain ⟨q0, q1, qP, qK, qD⟩ := q; exact ⟨q0, q1, qP, qK.call, qD⟩, va_recv hK.1 hP (ci := 6) (q0 := 7) rfl rfl, fun U hU hW => ⟨rfl, by rw [hU], by rw [hU]; exact hPc, hK.warm hW, hDc.weaken (fun _ _ _ _ => trivial)⟩⟩ rfl rfl hl.1 rfl (lv_room (Nat.le_of_ble_eq_true rfl)) dX0_failed_86 ⟨Nat.le_of_ble_eq_true rfl, Nat.le_of_ble_eq_true rfl⟩) hS (fun q _ h => hFc q h) hFc (fun u_13 t H1 locs ht hvm hw hB hz1 hk1 hS => ?_)
              obtain ⟨hP1, hD1⟩ := hB
              rw [ht] at hP1
              obtain ⟨hP, hD⟩ := va_join (wr := [ar G h_kinds 5 5 [h_kinds_0, h_kinds_1, h_kinds_2, h_kinds_3, h_kinds_4], oc h_kinds_0 1 [], oc h_kinds_1 2 [], oc h_kinds_2 3 [], oc h_kinds_3 4 [], oc h_kinds_4 5 [], ai G h_failing 6 failing, oc h 0 [.ref h_kinds, .ref h_now, .ref h_fault, .ref h_tape, .int taped, .int reads, .ref h_got, .ref h_failing, .ref h_past, .int undoMany, .ref h_aside, .ref h_best, .ref h_tried, .ref h_kept, .ref h_keptPast, .int keptMany, .int isKept, .ref h_sheets], arf G h_sheets 7 4 shf, oc h_sheets_x 8 [.ref h_sheets_x_r], ay G h_sheets_x_r rn rw]) (w1 := [oc h_aside 6 [.ref h_aside_0, .ref h_aside_1, .ref h_aside_2, .ref h_aside_3, .int (mn u_13), .int (ma u_13), .int (yr u_13), .int (dw u_13)], ai G h_aside_0 6 (kd u_13), ai G h_aside_1 18 (pl u_13), ai G h_aside_2 6 (lf u_13), ai G h_aside_3 6 (se u_13), oc h_now 6 [.ref h_now_0, .ref h_now_1, .ref h_now_2, .ref h_now_3, .int (mn now), .int (ma now), .int (yr now), .int (dw now)], ai G h_now_0 6 (kd now), ai G h_now_1 18 (pl now), ai G h_now_2 6 (lf now), ai G h_now_3 6 (se now)]) hP hD [7, 8, 9, 10, 11, 16, 17, 18, 19, 20] [0, 1, 2, 3, 4, 5, 6, 12, 13, 14, 15] rfl rfl (by decide) (by decide) hk1 hFc hP1 hD1
              clear hPc hDc hFc hP1 hD1 hz1 hk1 hvm
              generalize H1 = H at hP hS ⊢
              have hP : va_P G.1 gCl [ar G h_kinds 5 5 [h_kinds_0, h_kinds_1, h_kinds_2, h_kinds_3, h_kinds_4], oc h_kinds_0 1 [], oc h_kinds_1 2 [], oc h_kinds_2 3 [], oc h_kinds_3 4 [], oc h_kinds_4 5 [], ai G h_failing 6 failing, oc h 0 [.ref h_kinds, .ref h_now, .ref h_fault, .ref h_tape, .int taped, .int reads, .ref h_got, .ref h_failing, .ref h_past, .int undoMany, .ref h_aside, .ref h_best, .ref h_tried, .ref h_kept, .ref h_keptPast, .int keptMany, .int isKept, .ref h_sheets], arf G h_sheets 7 4 shf, oc h_sheets_x 8 [.ref h_sheets_x_r], ay G h_sheets_x_r rn rw, oc h_aside 6 [.ref h_aside_0, .ref h_aside_1, .ref h_aside_2, .ref h_aside_3, .int (mn u_13), .int (ma u_13), .int (yr u_13), .int (dw u_13)], ai G h_aside_0 6 (kd u_13), ai G h_aside_1 18 (pl u_13), ai G h_aside_2 6 (lf u_13), ai G h_aside_3 6 (se u_13), oc h_now 6 [.ref h_now_0, .ref h_now_1, .ref h_now_2, .ref h_now_3, .int (mn now), .int (ma now), .int (yr now), .int (dw now)], ai G h_now_0 6 (kd now), ai G h_now_1 18 (pl now), ai G h_now_2 6 (lf now), ai G h_now_3 6 (se now)] H := hP
              have hD : va_D A [ar G h_kinds 5 5 [h_kinds_0, h_kinds_1, h_kinds_2, h_kinds_3, h_kinds_4], oc h_kinds_0 1 [], oc h_kinds_1 2 [], oc h_kinds_2 3 [], oc h_kinds_3 4 [], oc h_kinds_4 5 [], ai G h_failing 6 failing, oc h 0 [.ref h_kinds, .ref h_now, .ref h_fault, .ref h_tape, .int taped, .int reads, .ref h_got, .ref h_failing, .ref h_past, .int undoMany, .ref h_aside, .ref h_best, .ref h_tried, .ref h_kept, .ref h_keptPast, .int keptMany, .int isKept, .ref h_sheets], arf G h_sheets 7 4 shf, oc h_sheets_x 8 [.ref h_sheets_x_r], ay G h_sheets_x_r rn rw, oc h_aside 6 [.ref h_aside_0, .ref h_aside_1, .ref h_aside_2, .ref h_aside_3, .int (mn u_13), .int (ma u_13), .int (yr u_13), .int (dw u_13)], ai G h_aside_0 6 (kd u_13), ai G h_aside_1 18 (pl u_13), ai G h_aside_2 6 (lf u_13), ai G h_aside_3 6 (se u_13), oc h_now 6 [.ref h_now_0, .ref h_now_1, .ref h_now_2, .ref h_now_3, .int (mn now), .int (ma now), .int (yr now), .int (dw now)], ai G h_now_0 6 (kd now), ai G h_now_1 18 (pl now), ai G h_now_2 6 (lf now), ai G h_now_3 6 (se now)] := hD
              refine lv_iload hx hb dX0_failed_89 (lv_at hl 7 rfl) ?_
              refine lv_if_ne (tgt := 110) hx hb dX0_failed_91 (by decide) (fun c_14 => ?_) (fun c_14 => ?_)
              · replace hw := hw.1 c_14
                refine lv_iconst (v := (0 : Int32)) hx hb dX0_failed_110 (by decide) ?_
                refine lv_istore (lv' := [(8, .int (0 : Int32)), (7, .int r_9), (0, .ref h), (1, .int p1), (2, .int p2), (3, .int p3), (4, .int p4), (5, .int p5), (6, .int p6)]) hx hb dX0_failed_111 hl (by decide) rfl (fun ls hl => ?_)
                refine lv_bipush (v := (-4 : Int32)) hx hb dX0_failed_113 (by decide) ?_
                refine lv_istore (lv' := [(9, .int (-4 : Int32)), (8, .int (0 : Int32)), (7, .int r_9), (0, .ref h), (1, .int p1), (2, .int p2), (3, .int p3), (4, .int p4), (5, .int p5), (6, .int p6)]) hx hb dX0_failed_115 hl (by decide) rfl (fun ls hl => ?_)
                refine lv_bipush (v := (60 : Int32)) hx hb dX0_failed_117 (by decide) ?_
                refine lv_istore (lv' := [(10, .int (60 : Int32)), (9, .int (-4 : Int32)), (8, .int (0 : Int32)), (7, .int r_9), (0, .ref h), (1, .int p1), (2, .int p2), (3, .int p3), (4, .int p4), (5, .int p5), (6, .int p6)]) hx hb dX0_failed_119 hl (by decide) rfl (fun ls hl => ?_)
                obtain ⟨j_, hw⟩ := hw
                exact wk_X0_failed_B_121 h h_kinds h_now h_fault h_tape h_got h_failing h_past h_aside h_best h_tried h_kept h_keptPast h_sheets h_kinds_0 h_kinds_1 h_kinds_2 h_kinds_3 h_kinds_4 h_now_0 h_now_1 h_now_2 h_now_3 h_aside_0 h_aside_1 h_aside_2 h_aside_3 h_sheets_x h_sheets_x_r shf taped reads undoMany keptMany isKept rn rw p1 p2 p3 p4 p5 p6 hsh Q  C  j_ now failing u_13 (0 : Int32) (-4 : Int32) (60 : Int32) H locs (hP.sub [7, 0, 1, 2, 3, 4, 5, 16, 17, 18, 19, 20, 6, 11, 12, 13, 14, 15, 8, 9, 10] rfl) (hD.sub [7, 0, 1, 2, 3, 4, 5, 16, 17, 18, 19, 20, 6, 11, 12, 13, 14, 15, 8, 9, 10] (by decide) rfl) hS ls (lv_sub hl [4, 5, 6, 8, 9, 10, 2, 1, 0] rfl) hw
              · replace hw := hw.2 c_14
                refine lv_aload_n hx hb dX0_failed_94 rfl (lv_at hl 1 rfl) ?_
                refine lv_iload_n hx hb dX0_failed_95 rfl (lv_at hl 2 rfl) ?_
                refine lv_aload_n hx hb dX0_failed_96 rfl (lv_at hl 1 rfl) ?_
                refine va_get (D := G.1) (ci := 0) (v := .ref h_sheets) (C := RX0) (T := TX0) (N := 18) hx hb hts in_X0 hown hK.1 hP 7 rfl rfl 17 (by decide) (hts _ q273) (fun _ h9 => h9) rfl dX0_failed_97 ?_
                refine lv_iload_n hx hb dX0_failed_100 rfl (lv_at hl 3 rfl) ?_
                obtain ⟨i_15, hw⟩ := hw
                refine z_aaldS hx hb hK.1 hP 8 7 rfl rfl i_15 dX0_failed_101 hsh ?_
                refine lv_iload hx hb dX0_failed_102 (lv_at hl 5 rfl) ?_
                refine lv_iload hx hb dX0_failed_104 (lv_at hl 6 rfl) ?_
                have hPc := hP.sub (ws' := [oc h 0 [.ref h_kinds, .ref h_now, .ref h_fault, .ref h_tape, .int taped, .int reads, .ref h_got, .ref h_failing, .ref h_past, .int undoMany, .ref h_aside, .ref h_best, .ref h_tried, .ref h_kept, .ref h_keptPast, .int keptMany, .int isKept, .ref h_sheets], ar G h_kinds 5 5 [h_kinds_0, h_kinds_1, h_kinds_2, h_kinds_3, h_kinds_4], oc h_kinds_0 1 [], oc h_kinds_1 2 [], oc h_kinds_2 3 [], oc h_kinds_3 4 [], oc h_kinds_4 5 [], oc h_now 6 [.ref h_now_0, .ref h_now_1, .ref h_now_2, .ref h_now_3, .int (mn now), .int (ma now), .int (yr now), .int (dw now)], ai G h_now_0 6 (kd now), ai G h_now_1 18 (pl now), ai G h_now_2 6 (lf now), ai G h_now_3 6 (se now), ai G h_failing 6 failing, oc h_aside 6 [.ref h_aside_0, .ref h_aside_1, .ref h_aside_2, .ref h_aside_3, .int (mn u_13), .int (ma u_13), .int (yr u_13), .int (dw u_13)], ai G h_aside_0 6 (kd u_13), ai G h_aside_1 18 (pl u_13), ai G h_aside_2 6 (lf u_13), ai G h_aside_3 6 (se u_13), oc h_sheets_x 8 [.ref h_sheets_x_r], ay G h_sheets_x_r rn rw]) [7, 0, 1, 2, 3, 4, 5, 16, 17, 18, 19, 20, 6, 11, 12, 13, 14, 15, 9, 10] rfl
                have hDc := hD.sub (ws' := [oc h 0 [.ref h_kinds, .ref h_now, .ref h_fault, .ref h_tape, .int taped, .int reads, .ref h_got, .ref h_failing, .ref h_past, .int undoMany, .ref h_aside, .ref h_best, .ref h_tried, .ref h_kept, .ref h_keptPast, .int keptMany, .int isKept, .ref h_sheets], ar G h_kinds 5 5 [h_kinds_0, h_kinds_1, h_kinds_2, h_kinds_3, h_kinds_4], oc h_kinds_0 1 [], oc h_kinds_1 2 [], oc h_kinds_2 3 [], oc h_kinds_3 4 [], oc h_kinds_4 5 [], oc h_now 6 [.ref h_now_0, .ref h_now_1, .ref h_now_2, .ref h_now_3, .int (mn now), .int (ma now), .int (yr now), .int (dw now)], ai G h_now_0 6 (kd now), ai G h_now_1 18 (pl now), ai G h_now_2 6 (lf now), ai G h_now_3 6 (se now), ai G h_failing 6 failing, oc h_aside 6 [.ref h_aside_0, .ref h_aside_1, .ref h_aside_2, .ref h_aside_3, .int (mn u_13), .int (ma u_13), .int (yr u_13), .int (dw u_13)], ai G h_aside_0 6 (kd u_13), ai G h_aside_1 18 (pl u_13), ai G h_aside_2 6 (lf u_13), ai G h_aside_3 6 (se u_13), oc h_sheets_x 8 [.ref h_sheets_x_r], ay G h_sheets_x_r rn rw]) [7, 0, 1, 2, 3, 4, 5, 16, 17, 18, 19, 20, 6, 11, 12, 13, 14, 15, 9, 10] (by decide) rfl
                have hFc := va_free (wc := [oc h 0 [.ref h_kinds, .ref h_now, .ref h_fault, .ref h_tape, .int taped, .int reads, .ref h_got, .ref h_failing, .ref h_past, .int undoMany, .ref h_aside, .ref h_best, .ref h_tried, .ref h_kept, .ref h_keptPast, .int keptMany, .int isKept, .ref h_sheets], ar G h_kinds 5 5 [h_kinds_0, h_kinds_1, h_kinds_2, h_kinds_3, h_kinds_4], oc h_kinds_0 1 [], oc h_kinds_1 2 [], oc h_kinds_2 3 [], oc h_kinds_3 4 [], oc h_kinds_4 5 [], oc h_now 6 [.ref h_now_0, .ref h_now_1, .ref h_now_2, .ref h_now_3, .int (mn now), .int (ma now), .int (yr now), .int (dw now)], ai G h_now_0 6 (kd now), ai G h_now_1 18 (pl now), ai G h_now_2 6 (lf now), ai G h_now_3 6 (se now), ai G h_failing 6 failing, oc h_aside 6 [.ref h_aside_0, .ref h_aside_1, .ref h_aside_2, .ref h_aside_3, .int (mn u_13), .int (ma u_13), .int (yr u_13), .int (dw u_13)], ai G h_aside_0 6 (kd u_13), ai G h_aside_1 18 (pl u_13), ai G h_aside_2 6 (lf u_13), ai G h_aside_3 6 (se u_13), oc h_sheets_x 8 [.ref h_sheets_x_r], ay G h_sheets_x_r rn rw]) hD hS hA [7, 0, 1, 2, 3, 4, 5, 16, 17, 18, 19, 20, 6, 11, 12, 13, 14, 15, 9, 10] rfl
                refine va_calli (va_runV (As := [.int p1, .ref h_sheets_x, .int p4, .int p5]) (rest := []) ⟨hx, hb, hml, hown, hts⟩ (mt_X0_kindsBy_B l G h h_kinds h_now h_fault h_tape h_got h_failing h_past h_aside h_best h_tried h_kept h_keptPast h_sheets h_kinds_0 h_kinds_1 h_kinds_2 h_kinds_3 h_kinds_4 h_now_0 h_now_1 h_now_2 h_now_3 h_aside_0 h_aside_1 h_aside_2 h_aside_3 h_sheets_x h_sheets_x_r H.size taped reads undoMany keptMany isKept now failing u_13 rn rw p1 p4 p5 _ hw) (cwV 4 hts (lw_V q669 q671 qs24 q54 q672) rfl rfl rfl (by decide +kernel) ⟨Nat.le_of_ble_eq_true rfl, Nat.le_of_ble_eq_true rfl⟩) ⟨fun a U g mk q => by obtain ⟨q0, q1, qP, qK, qD⟩ := q; exact ⟨q0, q1, qP, qK.call, qD⟩, va_recv hK.1 hP (ci := 0) (q0 := 7) rfl rfl, fun U hU hW => ⟨rfl, by rw [hU], by rw [hU]; exact hPc, hK.warm hW, hDc.weaken (fun _ _ _ _ => trivial)⟩⟩ rfl rfl hl.1 rfl (lv_room (Nat.le_of_ble_eq_true rfl)) dX0_failed_106 ⟨Nat.le_of_ble_eq_true rfl, Nat.le_of_ble_eq_true rfl⟩) hS (fun q _ h => hFc q h) hFc (fun r_16 u_17 t H1 locs ht hvm hw hB hz1 hk1 hS => ?_)
                obtain ⟨hP1, hD1⟩ := hB
                rw [ht] at hP1
                obtain ⟨hP, hD⟩ := va_join (wr := [arf G h_sheets 7 4 shf]) (w1 := [oc h 0 [.ref h_kinds, .ref h_now, .ref h_fault, .ref h_tape, .int taped, .int reads, .ref h_got, .ref h_failing, .ref h_past, .int undoMany, .ref h_aside, .ref h_best, .ref h_tried, .ref h_kept, .ref h_keptPast, .int keptMany, .int isKept, .ref h_sheets], ar G h_kinds 5 5 [h_kinds_0, h_kinds_1, h_kinds_2, h_kinds_3, h_kinds_4], oc h_kinds_0 1 [], oc h_kinds_1 2 [], oc h_kinds_2 3 [], oc h_kinds_3 4 [], oc h_kinds_4 5 [], oc h_now 6 [.ref h_now_0, .ref h_now_1, .ref h_now_2, .ref h_now_3, .int (mn u_17.1), .int (ma u_17.1), .int (yr u_17.1), .int (dw u_17.1)], ai G h_now_0 6 (kd u_17.1), ai G h_now_1 18 (pl u_17.1), ai G h_now_2 6 (lf u_17.1), ai G h_now_3 6 (se u_17.1), ai G h_failing 6 u_17.2, oc h_aside 6 [.ref h_aside_0, .ref h_aside_1, .ref h_aside_2, .ref h_aside_3, .int (mn u_13), .int (ma u_13), .int (yr u_13), .int (dw u_13)], ai G h_aside_0 6 (kd u_13), ai G h_aside_1 18 (pl u_13), ai G h_aside_2 6 (lf u_13), ai G h_aside_3 6 (se u_13), oc h_sheets_x 8 [.ref h_sheets_x_r], ay G h_sheets_x_r rn rw]) hP hD [7, 0, 1, 2, 3, 4, 5, 16, 17, 18, 19, 20, 6, 11, 12, 13, 14, 15, 9, 10] [8] rfl rfl (by decide) (by decide) hk1 hFc hP1 hD1
                clear hPc hDc hFc hP1 hD1 hz1 hk1 hvm
                generalize H1 = H at hP hS ⊢
                have hP : va_P G.1 gCl [arf G h_sheets 7 4 shf, oc h 0 [.ref h_kinds, .ref h_now, .ref h_fault, .ref h_tape, .int taped, .int reads, .ref h_got, .ref h_failing, .ref h_past, .int undoMany, .ref h_aside, .ref h_best, .ref h_tried, .ref h_kept, .ref h_keptPast, .int keptMany, .int isKept, .ref h_sheets], ar G h_kinds 5 5 [h_kinds_0, h_kinds_1, h_kinds_2, h_kinds_3, h_kinds_4], oc h_kinds_0 1 [], oc h_kinds_1 2 [], oc h_kinds_2 3 [], oc h_kinds_3 4 [], oc h_kinds_4 5 [], oc h_now 6 [.ref h_now_0, .ref h_now_1, .ref h_now_2, .ref h_now_3, .int (mn u_17.1), .int (ma u_17.1), .int (yr u_17.1), .int (dw u_17.1)], ai G h_now_0 6 (kd u_17.1), ai G h_now_1 18 (pl u_17.1), ai G h_now_2 6 (lf u_17.1), ai G h_now_3 6 (se u_17.1), ai G h_failing 6 u_17.2, oc h_aside 6 [.ref h_aside_0, .ref h_aside_1, .ref h_aside_2, .ref h_aside_3, .int (mn u_13), .int (ma u_13), .int (yr u_13), .int (dw u_13)], ai G h_aside_0 6 (kd u_13), ai G h_aside_1 18 (pl u_13), ai G h_aside_2 6 (lf u_13), ai G h_aside_3 6 (se u_13), oc h_sheets_x 8 [.ref h_sheets_x_r], ay G h_sheets_x_r rn rw] H := hP
                have hD : va_D A [arf G h_sheets 7 4 shf, oc h 0 [.ref h_kinds, .ref h_now, .ref h_fault, .ref h_tape, .int taped, .int reads, .ref h_got, .ref h_failing, .ref h_past, .int undoMany, .ref h_aside, .ref h_best, .ref h_tried, .ref h_kept, .ref h_keptPast, .int keptMany, .int isKept, .ref h_sheets], ar G h_kinds 5 5 [h_kinds_0, h_kinds_1, h_kinds_2, h_kinds_3, h_kinds_4], oc h_kinds_0 1 [], oc h_kinds_1 2 [], oc h_kinds_2 3 [], oc h_kinds_3 4 [], oc h_kinds_4 5 [], oc h_now 6 [.ref h_now_0, .ref h_now_1, .ref h_now_2, .ref h_now_3, .int (mn u_17.1), .int (ma u_17.1), .int (yr u_17.1), .int (dw u_17.1)], ai G h_now_0 6 (kd u_17.1), ai G h_now_1 18 (pl u_17.1), ai G h_now_2 6 (lf u_17.1), ai G h_now_3 6 (se u_17.1), ai G h_failing 6 u_17.2, oc h_aside 6 [.ref h_aside_0, .ref h_aside_1, .ref h_aside_2, .ref h_aside_3, .int (mn u_13), .int (ma u_13), .int (yr u_13), .int (dw u_13)], ai G h_aside_0 6 (kd u_13), ai G h_aside_1 18 (pl u_13), ai G h_aside_2 6 (lf u_13), ai G h_aside_3 6 (se u_13), oc h_sheets_x 8 [.ref h_sheets_x_r], ay G h_sheets_x_r rn rw] := hD
                have hP9 := hP.sub (ws' := [oc h 0 [.ref h_kinds, .ref h_now, .ref h_fault, .ref h_tape, .int taped, .int reads, .ref h_got, .ref h_failing, .ref h_past, .int undoMany, .ref h_aside, .ref h_best, .ref h_tried, .ref h_kept, .ref h_keptPast, .int keptMany, .int isKept, .ref h_sheets], ar G h_kinds 5 5 [h_kinds_0, h_kinds_1, h_kinds_2, h_kinds_3, h_kinds_4], oc h_kinds_0 1 [], oc h_kinds_1 2 [], oc h_kinds_2 3 [], oc h_kinds_3 4 [], oc h_kinds_4 5 [], oc h_now 6 [.ref h_now_0, .ref h_now_1, .ref h_now_2, .ref h_now_3, .int (mn u_17.1), .int (ma u_17.1), .int (yr u_17.1), .int (dw u_17.1)], ai G h_now_0 6 (kd u_17.1), ai G h_now_1 18 (pl u_17.1), ai G h_now_2 6 (lf u_17.1), ai G h_now_3 6 (se u_17.1), ai G h_failing 6 u_17.2, oc h_aside 6 [.ref h_aside_0, .ref h_aside_1, .ref h_aside_2, .ref h_aside_3, .int (mn u_13), .int (ma u_13), .int (yr u_13), .int (dw u_13)], ai G h_aside_0 6 (kd u_13), ai G h_aside_1 18 (pl u_13), ai G h_aside_2 6 (lf u_13), ai G h_aside_3 6 (se u_13), arf G h_sheets 7 4 shf, oc h_sheets_x 8 [.ref h_sheets_x_r], ay G h_sheets_x_r rn rw]) [1, 2, 3, 4, 5, 6, 7, 8, 9, 10, 11, 12, 13, 14, 15, 16, 17, 18, 0, 19, 20] rfl
                have hD9 := hD.sub (ws' := [oc h 0 [.ref h_kinds, .ref h_now, .ref h_fault, .ref h_tape, .int taped, .int reads, .ref h_got, .ref h_failing, .ref h_past, .int undoMany, .ref h_aside, .ref h_best, .ref h_tried, .ref h_kept, .ref h_keptPast, .int keptMany, .int isKept, .ref h_sheets], ar G h_kinds 5 5 [h_kinds_0, h_kinds_1, h_kinds_2, h_kinds_3, h_kinds_4], oc h_kinds_0 1 [], oc h_kinds_1 2 [], oc h_kinds_2 3 [], oc h_kinds_3 4 [], oc h_kinds_4 5 [], oc h_now 6 [.ref h_now_0, .ref h_now_1, .ref h_now_2, .ref h_now_3, .int (mn u_17.1), .int (ma u_17.1), .int (yr u_17.1), .int (dw u_17.1)], ai G h_now_0 6 (kd u_17.1), ai G h_now_1 18 (pl u_17.1), ai G h_now_2 6 (lf u_17.1), ai G h_now_3 6 (se u_17.1), ai G h_failing 6 u_17.2, oc h_aside 6 [.ref h_aside_0, .ref h_aside_1, .ref h_aside_2, .ref h_aside_3, .int (mn u_13), .int (ma u_13), .int (yr u_13), .int (dw u_13)], ai G h_aside_0 6 (kd u_13), ai G h_aside_1 18 (pl u_13), ai G h_aside_2 6 (lf u_13), ai G h_aside_3 6 (se u_13), arf G h_sheets 7 4 shf, oc h_sheets_x 8 [.ref h_sheets_x_r], ay G h_sheets_x_r rn rw]) [1, 2, 3, 4, 5, 6, 7, 8, 9, 10, 11, 12, 13, 14, 15, 16, 17, 18, 0, 19, 20] (by decide) rfl
                exact W.iret (v := r_16) hx hb hr (fun t ht hW => ⟨⟨r_16, (u_17.1, u_17.2, u_13), rfl, hw, by rw [ht]; exact hP9, hD9⟩, hS.F ht⟩) hS.2.2 dX0_failed_109
            · replace hw := hw.2 c_12
              refine lv_bipush (v := (-2 : Int32)) hx hb dX0_failed_75 (by decide) ?_
              have hP9 := hP.sub (ws' := [oc h 0 [.ref h_kinds, .ref h_now, .ref h_fault, .ref h_tape, .int taped, .int reads, .ref h_got, .ref h_failing, .ref h_past, .int undoMany, .ref h_aside, .ref h_best, .ref h_tried, .ref h_kept, .ref h_keptPast, .int keptMany, .int isKept, .ref h_sheets], ar G h_kinds 5 5 [h_kinds_0, h_kinds_1, h_kinds_2, h_kinds_3, h_kinds_4], oc h_kinds_0 1 [], oc h_kinds_1 2 [], oc h_kinds_2 3 [], oc h_kinds_3 4 [], oc h_kinds_4 5 [], oc h_now 6 [.ref h_now_0, .ref h_now_1, .ref h_now_2, .ref h_now_3, .int (mn now), .int (ma now), .int (yr now), .int (dw now)], ai G h_now_0 6 (kd now), ai G h_now_1 18 (pl now), ai G h_now_2 6 (lf now), ai G h_now_3 6 (se now), ai G h_failing 6 failing, oc h_aside 6 [.ref h_aside_0, .ref h_aside_1, .ref h_aside_2, .ref h_aside_3, .int (mn aside), .int (ma aside), .int (yr aside), .int (dw aside)], ai G h_aside_0 6 (kd aside), ai G h_aside_1 18 (pl aside), ai G h_aside_2 6 (lf aside), ai G h_aside_3 6 (se aside), arf G h_sheets 7 4 shf, oc h_sheets_x 8 [.ref h_sheets_x_r], ay G h_sheets_x_r rn rw]) [12, 0, 1, 2, 3, 4, 5, 16, 17, 18, 19, 20, 6, 7, 8, 9, 10, 11, 13, 14, 15] rfl
              have hD9 := hD.sub (ws' := [oc h 0 [.ref h_kinds, .ref h_now, .ref h_fault, .ref h_tape, .int taped, .int reads, .ref h_got, .ref h_failing, .ref h_past, .int undoMany, .ref h_aside, .ref h_best, .ref h_tried, .ref h_kept, .ref h_keptPast, .int keptMany, .int isKept, .ref h_sheets], ar G h_kinds 5 5 [h_kinds_0, h_kinds_1, h_kinds_2, h_kinds_3, h_kinds_4], oc h_kinds_0 1 [], oc h_kinds_1 2 [], oc h_kinds_2 3 [], oc h_kinds_3 4 [], oc h_kinds_4 5 [], oc h_now 6 [.ref h_now_0, .ref h_now_1, .ref h_now_2, .ref h_now_3, .int (mn now), .int (ma now), .int (yr now), .int (dw now)], ai G h_now_0 6 (kd now), ai G h_now_1 18 (pl now), ai G h_now_2 6 (lf now), ai G h_now_3 6 (se now), ai G h_failing 6 failing, oc h_aside 6 [.ref h_aside_0, .ref h_aside_1, .ref h_aside_2, .ref h_aside_3, .int (mn aside), .int (ma aside), .int (yr aside), .int (dw aside)], ai G h_aside_0 6 (kd aside), ai G h_aside_1 18 (pl aside), ai G h_aside_2 6 (lf aside), ai G h_aside_3 6 (se aside), arf G h_sheets 7 4 shf, oc h_sheets_x 8 [.ref h_sheets_x_r], ay G h_sheets_x_r rn rw]) [12, 0, 1, 2, 3, 4, 5, 16, 17, 18, 19, 20, 6, 7, 8, 9, 10, 11, 13, 14, 15] (by decide) rfl
              exact W.iret (v := (-2 : Int32)) hx hb hr (fun t ht hW => ⟨⟨(-2 : Int32), (now, failing, aside), rfl, hw, by rw [ht]; exact hP9, hD9⟩, hS.F ht⟩) hS.2.2 dX0_failed_77
          · replace hw := hw.2 c_10
            refine lv_iload hx hb dX0_failed_61 (lv_at hl 0 rfl) ?_
            have hP9 := hP.sub (ws' := [oc h 0 [.ref h_kinds, .ref h_now, .ref h_fault, .ref h_tape, .int taped, .int reads, .ref h_got, .ref h_failing, .ref h_past, .int undoMany, .ref h_aside, .ref h_best, .ref h_tried, .ref h_kept, .ref h_keptPast, .int keptMany, .int isKept, .ref h_sheets], ar G h_kinds 5 5 [h_kinds_0, h_kinds_1, h_kinds_2, h_kinds_3, h_kinds_4], oc h_kinds_0 1 [], oc h_kinds_1 2 [], oc h_kinds_2 3 [], oc h_kinds_3 4 [], oc h_kinds_4 5 [], oc h_now 6 [.ref h_now_0, .ref h_now_1, .ref h_now_2, .ref h_now_3, .int (mn now), .int (ma now), .int (yr now), .int (dw now)], ai G h_now_0 6 (kd now), ai G h_now_1 18 (pl now), ai G h_now_2 6 (lf now), ai G h_now_3 6 (se now), ai G h_failing 6 failing, oc h_aside 6 [.ref h_aside_0, .ref h_aside_1, .ref h_aside_2, .ref h_aside_3, .int (mn aside), .int (ma aside), .int (yr aside), .int (dw aside)], ai G h_aside_0 6 (kd aside), ai G h_aside_1 18 (pl aside), ai G h_aside_2 6 (lf aside), ai G h_aside_3 6 (se aside), arf G h_sheets 7 4 shf, oc h_sheets_x 8 [.ref h_sheets_x_r], ay G h_sheets_x_r rn rw]) [17, 0, 1, 2, 3, 4, 5, 12, 13, 14, 15, 16, 6, 7, 8, 9, 10, 11, 18, 19, 20] rfl
            have hD9 := hD.sub (ws' := [oc h 0 [.ref h_kinds, .ref h_now, .ref h_fault, .ref h_tape, .int taped, .int reads, .ref h_got, .ref h_failing, .ref h_past, .int undoMany, .ref h_aside, .ref h_best, .ref h_tried, .ref h_kept, .ref h_keptPast, .int keptMany, .int isKept, .ref h_sheets], ar G h_kinds 5 5 [h_kinds_0, h_kinds_1, h_kinds_2, h_kinds_3, h_kinds_4], oc h_kinds_0 1 [], oc h_kinds_1 2 [], oc h_kinds_2 3 [], oc h_kinds_3 4 [], oc h_kinds_4 5 [], oc h_now 6 [.ref h_now_0, .ref h_now_1, .ref h_now_2, .ref h_now_3, .int (mn now), .int (ma now), .int (yr now), .int (dw now)], ai G h_now_0 6 (kd now), ai G h_now_1 18 (pl now), ai G h_now_2 6 (lf now), ai G h_now_3 6 (se now), ai G h_failing 6 failing, oc h_aside 6 [.ref h_aside_0, .ref h_aside_1, .ref h_aside_2, .ref h_aside_3, .int (mn aside), .int (ma aside), .int (yr aside), .int (dw aside)], ai G h_aside_0 6 (kd aside), ai G h_aside_1 18 (pl aside), ai G h_aside_2 6 (lf aside), ai G h_aside_3 6 (se aside), arf G h_sheets 7 4 shf, oc h_sheets_x 8 [.ref h_sheets_x_r], ay G h_sheets_x_r rn rw]) [17, 0, 1, 2, 3, 4, 5, 12, 13, 14, 15, 16, 6, 7, 8, 9, 10, 11, 18, 19, 20] (by decide) rfl
            exact W.iret (v := r_9) hx hb hr (fun t ht hW => ⟨⟨r_9, (now, failing, aside), rfl, hw, by rw [ht]; exact hP9, hD9⟩, hS.F ht⟩) hS.2.2 dX0_failed_63
        · replace hw := hw.2 c_8
          refine lv_iconst (v := (-1 : Int32)) hx hb dX0_failed_42 (by decide) ?_
          have hP9 := hP.sub (ws' := [oc h 0 [.ref h_kinds, .ref h_now, .ref h_fault, .ref h_tape, .int taped, .int reads, .ref h_got, .ref h_failing, .ref h_past, .int undoMany, .ref h_aside, .ref h_best, .ref h_tried, .ref h_kept, .ref h_keptPast, .int keptMany, .int isKept, .ref h_sheets], ar G h_kinds 5 5 [h_kinds_0, h_kinds_1, h_kinds_2, h_kinds_3, h_kinds_4], oc h_kinds_0 1 [], oc h_kinds_1 2 [], oc h_kinds_2 3 [], oc h_kinds_3 4 [], oc h_kinds_4 5 [], oc h_now 6 [.ref h_now_0, .ref h_now_1, .ref h_now_2, .ref h_now_3, .int (mn now), .int (ma now), .int (yr now), .int (dw now)], ai G h_now_0 6 (kd now), ai G h_now_1 18 (pl now), ai G h_now_2 6 (lf now), ai G h_now_3 6 (se now), ai G h_failing 6 failing, oc h_aside 6 [.ref h_aside_0, .ref h_aside_1, .ref h_aside_2, .ref h_aside_3, .int (mn aside), .int (ma aside), .int (yr aside), .int (dw aside)], ai G h_aside_0 6 (kd aside), ai G h_aside_1 18 (pl aside), ai G h_aside_2 6 (lf aside), ai G h_aside_3 6 (se aside), arf G h_sheets 7 4 shf, oc h_sheets_x 8 [.ref h_sheets_x_r], ay G h_sheets_x_r rn rw]) [15, 0, 1, 2, 3, 4, 5, 16, 17, 18, 19, 20, 6, 7, 8, 9, 10, 11, 12, 13, 14] rfl
          have hD9 := hD.sub (ws' := [oc h 0 [.ref h_kinds, .ref h_now, .ref h_fault, .ref h_tape, .int taped, .int reads, .ref h_got, .ref h_failing, .ref h_past, .int undoMany, .ref h_aside, .ref h_best, .ref h_tried, .ref h_kept, .ref h_keptPast, .int keptMany, .int isKept, .ref h_sheets], ar G h_kinds 5 5 [h_kinds_0, h_kinds_1, h_kinds_2, h_kinds_3, h_kinds_4], oc h_kinds_0 1 [], oc h_kinds_1 2 [], oc h_kinds_2 3 [], oc h_kinds_3 4 [], oc h_kinds_4 5 [], oc h_now 6 [.ref h_now_0, .ref h_now_1, .ref h_now_2, .ref h_now_3, .int (mn now), .int (ma now), .int (yr now), .int (dw now)], ai G h_now_0 6 (kd now), ai G h_now_1 18 (pl now), ai G h_now_2 6 (lf now), ai G h_now_3 6 (se now), ai G h_failing 6 failing, oc h_aside 6 [.ref h_aside_0, .ref h_aside_1, .ref h_aside_2, .ref h_aside_3, .int (mn aside), .int (ma aside), .int (yr aside), .int (dw aside)], ai G h_aside_0 6 (kd aside), ai G h_aside_1 18 (pl aside), ai G h_aside_2 6 (lf aside), ai G h_aside_3 6 (se aside), arf G h_sheets 7 4 shf, oc h_sheets_x 8 [.ref h_sheets_x_r], ay G h_sheets_x_r rn rw]) [15, 0, 1, 2, 3, 4, 5, 16, 17, 18, 19, 20, 6, 7, 8, 9, 10, 11, 12, 13, 14] (by decide) rfl
          exact W.iret (v := (-1 : Int32)) hx hb hr (fun t ht hW => ⟨⟨(-1 : Int32), (now, failing, aside), rfl, hw, by rw [ht]; exact hP9, hD9⟩, hS.F ht⟩) hS.2.2 dX0_failed_43
/-! BattleBench.film(IIIII)I -/
def wp_X0_film_B_65 (rn : Nat) (p1 : Int32) (p2 : Int32) (p3 : Int32) (p4 : Int32) (p5 : Int32) (Q : Int32 → (BT × (Nat → Int32) × BT × (Nat → Int32)) → Prop)  : Nat → BT → (Nat → Int32) → BT → (Nat → Int32) → Int32 → Prop
  | 0, _, _, _, _, _ => False
  | n + 1, now, failing, aside, rw, x7 =>
    (((p2 ≤ x7) → wp_X6_takeFrom now aside  (fun u_2 => Q p2 (u_2, failing, aside, rw))) ∧ (¬ (p2 ≤ x7) → wp_X0_oneYear now failing  (fun u_3 => (vp_in p3 4 ∧ (vp_in p1 6 ∧ wp_X8_lay_B rn rw p4 (p5 + x7) (Int32.toInt64 ((lf u_3.1) p1.toNatClampNeg)) (fun u_6 => wp_X0_film_B_65 rn p1 p2 p3 p4 p5 Q  n u_3.1 u_3.2 aside u_6 (x7 + (1 : Int32))))))))
set_option maxHeartbeats 4000000 in
theorem wk_X0_film_B_65 {p : Program} {l : Launch} {e : Env} {s : State} {m : MethodId} {below : List Frame} {meth : Method} {c : Code} {args : Array Value} {G : GT} {A : Nat → Prop} (h h_kinds h_now h_fault h_tape h_got h_failing h_past h_aside h_best h_tried h_kept h_keptPast h_sheets h_kinds_0 h_kinds_1 h_kinds_2 h_kinds_3 h_kinds_4 h_now_0 h_now_1 h_now_2 h_now_3 h_aside_0 h_aside_1 h_aside_2 h_aside_3 h_sheets_x h_sheets_x_r : Nat) (shf : Nat → Option Nat) (taped : Int32) (reads : Int32) (undoMany : Int32) (keptMany : Int32) (isKept : Int32) (rn : Nat) (p1 : Int32) (p2 : Int32) (p3 : Int32) (p4 : Int32) (p5 : Int32)(hsh : shf p3.toNatClampNeg = some h_sheets_x) (Q : Int32 → (BT × (Nat → Int32) × BT × (Nat → Int32)) → Prop)  (C : Cx p s m meth c cX0_film 8 (some .int) RX0 args G A)  :
    ∀ (n : Nat), ∀  (now : BT) (failing : Nat → Int32) (aside : BT) (rw : Nat → Int32) (x7 : Int32) (H : Heap) (locs : List Loc), va_P G.1 gCl [oc h 0 [.ref h_kinds, .ref h_now, .ref h_fault, .ref h_tape, .int taped, .int reads, .ref h_got, .ref h_failing, .ref h_past, .int undoMany, .ref h_aside, .ref h_best, .ref h_tried, .ref h_kept, .ref h_keptPast, .int keptMany, .int isKept, .ref h_sheets], ar G h_kinds 5 5 [h_kinds_0, h_kinds_1, h_kinds_2, h_kinds_3, h_kinds_4], oc h_kinds_0 1 [], oc h_kinds_1 2 [], oc h_kinds_2 3 [], oc h_kinds_3 4 [], oc h_kinds_4 5 [], oc h_now 6 [.ref h_now_0, .ref h_now_1, .ref h_now_2, .ref h_now_3, .int (mn now), .int (ma now), .int (yr now), .int (dw now)], ai G h_now_0 6 (kd now), ai G h_now_1 18 (pl now), ai G h_now_2 6 (lf now), ai G h_now_3 6 (se now), ai G h_failing 6 failing, oc h_aside 6 [.ref h_aside_0, .ref h_aside_1, .ref h_aside_2, .ref h_aside_3, .int (mn aside), .int (ma aside), .int (yr aside), .int (dw aside)], ai G h_aside_0 6 (kd aside), ai G h_aside_1 18 (pl aside), ai G h_aside_2 6 (lf aside), ai G h_aside_3 6 (se aside), arf G h_sheets 7 4 shf, oc h_sheets_x 8 [.ref h_sheets_x_r], ay G h_sheets_x_r rn rw] H → va_D A [oc h 0 [.ref h_kinds, .ref h_now, .ref h_fault, .ref h_tape, .int taped, .int reads, .ref h_got, .ref h_failing, .ref h_past, .int undoMany, .ref h_aside, .ref h_best, .ref h_tried, .ref h_kept, .ref h_keptPast, .int keptMany, .int isKept, .ref h_sheets], ar G h_kinds 5 5 [h_kinds_0, h_kinds_1, h_kinds_2, h_kinds_3, h_kinds_4], oc h_kinds_0 1 [], oc h_kinds_1 2 [], oc h_kinds_2 3 [], oc h_kinds_3 4 [], oc h_kinds_4 5 [], oc h_now 6 [.ref h_now_0, .ref h_now_1, .ref h_now_2, .ref h_now_3, .int (mn now), .int (ma now), .int (yr now), .int (dw now)], ai G h_now_0 6 (kd now), ai G h_now_1 18 (pl now), ai G h_now_2 6 (lf now), ai G h_now_3 6 (se now), ai G h_failing 6 failing, oc h_aside 6 [.ref h_aside_0, .ref h_aside_1, .ref h_aside_2, .ref h_aside_3, .int (mn aside), .int (ma aside), .int (yr aside), .int (dw aside)], ai G h_aside_0 6 (kd aside), ai G h_aside_1 18 (pl aside), ai G h_aside_2 6 (lf aside), ai G h_aside_3 6 (se aside), arf G h_sheets 7 4 shf, oc h_sheets_x 8 [.ref h_sheets_x_r], ay G h_sheets_x_r rn rw] → va_S A s.heap H locs → ∀ (ls : Array Slot), lv_has ls 8 [(0, .ref h), (1, .int p1), (2, .int p2), (3, .int p3), (4, .int p4), (5, .int p5), (7, .int x7)] → wp_X0_film_B_65 rn p1 p2 p3 p4 p5 Q  n now failing aside rw x7 → W p l e ({ frames := 8, cells := 0, slots := 0, locals := 202 } : Room) s m args below meth c H locs 0 0 (MQ below (va_Qi (fun (r : Int32) (u : BT × (Nat → Int32) × BT × (Nat → Int32)) => Q r u) (fun u t => va_P G.1 gCl [oc h 0 [.ref h_kinds, .ref h_now, .ref h_fault, .ref h_tape, .int taped, .int reads, .ref h_got, .ref h_failing, .ref h_past, .int undoMany, .ref h_aside, .ref h_best, .ref h_tried, .ref h_kept, .ref h_keptPast, .int keptMany, .int isKept, .ref h_sheets], ar G h_kinds 5 5 [h_kinds_0, h_kinds_1, h_kinds_2, h_kinds_3, h_kinds_4], oc h_kinds_0 1 [], oc h_kinds_1 2 [], oc h_kinds_2 3 [], oc h_kinds_3 4 [], oc h_kinds_4 5 [], oc h_now 6 [.ref h_now_0, .ref h_now_1, .ref h_now_2, .ref h_now_3, .int (mn u.1), .int (ma u.1), .int (yr u.1), .int (dw u.1)], ai G h_now_0 6 (kd u.1), ai G h_now_1 18 (pl u.1), ai G h_now_2 6 (lf u.1), ai G h_now_3 6 (se u.1), ai G h_failing 6 u.2.1, oc h_aside 6 [.ref h_aside_0, .ref h_aside_1, .ref h_aside_2, .ref h_aside_3, .int (mn u.2.2.1), .int (ma u.2.2.1), .int (yr u.2.2.1), .int (dw u.2.2.1)], ai G h_aside_0 6 (kd u.2.2.1), ai G h_aside_1 18 (pl u.2.2.1), ai G h_aside_2 6 (lf u.2.2.1), ai G h_aside_3 6 (se u.2.2.1), arf G h_sheets 7 4 shf, oc h_sheets_x 8 [.ref h_sheets_x_r], ay G h_sheets_x_r rn u.2.2.2] t.heap ∧ va_D A [oc h 0 [.ref h_kinds, .ref h_now, .ref h_fault, .ref h_tape, .int taped, .int reads, .ref h_got, .ref h_failing, .ref h_past, .int undoMany, .ref h_aside, .ref h_best, .ref h_tried, .ref h_kept, .ref h_keptPast, .int keptMany, .int isKept, .ref h_sheets], ar G h_kinds 5 5 [h_kinds_0, h_kinds_1, h_kinds_2, h_kinds_3, h_kinds_4], oc h_kinds_0 1 [], oc h_kinds_1 2 [], oc h_kinds_2 3 [], oc h_kinds_3 4 [], oc h_kinds_4 5 [], oc h_now 6 [.ref h_now_0, .ref h_now_1, .ref h_now_2, .ref h_now_3, .int (mn u.1), .int (ma u.1), .int (yr u.1), .int (dw u.1)], ai G h_now_0 6 (kd u.1), ai G h_now_1 18 (pl u.1), ai G h_now_2 6 (lf u.1), ai G h_now_3 6 (se u.1), ai G h_failing 6 u.2.1, oc h_aside 6 [.ref h_aside_0, .ref h_aside_1, .ref h_aside_2, .ref h_aside_3, .int (mn u.2.2.1), .int (ma u.2.2.1), .int (yr u.2.2.1), .int (dw u.2.2.1)], ai G h_aside_0 6 (kd u.2.2.1), ai G h_aside_1 18 (pl u.2.2.1), ai G h_aside_2 6 (lf u.2.2.1), ai G h_aside_3 6 (se u.2.2.1), arf G h_sheets 7 4 shf, oc h_sheets_x 8 [.ref h_sheets_x_r], ay G h_sheets_x_r rn u.2.2.2]) A) args s 0 0 A) (F0 m 65 ls []) := by
  have C9 := C
  obtain ⟨hx, hb, hr, hlocks, hml, hown, hts, hK, hA⟩ := C9
  intro n
  induction n with
  | zero => intro now failing aside rw x7 H locs hP hD hS ls hl hw; exact False.elim hw
  | succ n ih =>
    intro now failing aside rw x7 H locs hP hD hS ls hl hw
    unfold wp_X0_film_B_65 at hw
    refine lv_iload hx hb dX0_film_65 (lv_at hl 6 rfl) ?_
    refine lv_iload_n hx hb dX0_film_67 rfl (lv_at hl 2 rfl) ?_
    refine lv_icmp_ge (tgt := 107) hx hb dX0_film_68 (by decide) (fun c_1 => ?_) (fun c_1 => ?_)
    · replace hw := hw.1 c_1
      refine lv_aload_n hx hb dX0_film_107 rfl (lv_at hl 0 rfl) ?_
      refine va_get (D := G.1) (ci := 0) (v := .ref h_now) (C := RX0) (T := TX0) (N := 18) hx hb hts in_X0 hown hK.1 hP 0 rfl rfl 1 (by decide) (hts _ q257) (fun _ h9 => h9) rfl dX0_film_108 ?_
      refine lv_aload_n hx hb dX0_film_111 rfl (lv_at hl 0 rfl) ?_
      refine va_get (D := G.1) (ci := 0) (v := .ref h_aside) (C := RX0) (T := TX0) (N := 18) hx hb hts in_X0 hown hK.1 hP 0 rfl rfl 10 (by decide) (hts _ q266) (fun _ h9 => h9) rfl dX0_film_112 ?_
      have hPc := hP.sub (ws' := [oc h_now 6 [.ref h_now_0, .ref h_now_1, .ref h_now_2, .ref h_now_3, .int (mn now), .int (ma now), .int (yr now), .int (dw now)], ai G h_now_0 6 (kd now), ai G h_now_1 18 (pl now), ai G h_now_2 6 (lf now), ai G h_now_3 6 (se now), oc h_aside 6 [.ref h_aside_0, .ref h_aside_1, .ref h_aside_2, .ref h_aside_3, .int (mn aside), .int (ma aside), .int (yr aside), .int (dw aside)], ai G h_aside_0 6 (kd aside), ai G h_aside_1 18 (pl aside), ai G h_aside_2 6 (lf aside), ai G h_aside_3 6 (se aside)]) [7, 8, 9, 10, 11, 13, 14, 15, 16, 17] rfl
      have hDc := hD.sub (ws' := [oc h_now 6 [.ref h_now_0, .ref h_now_1, .ref h_now_2, .ref h_now_3, .int (mn now), .int (ma now), .int (yr now), .int (dw now)], ai G h_now_0 6 (kd now), ai G h_now_1 18 (pl now), ai G h_now_2 6 (lf now), ai G h_now_3 6 (se now), oc h_aside 6 [.ref h_aside_0, .ref h_aside_1, .ref h_aside_2, .ref h_aside_3, .int (mn aside), .int (ma aside), .int (yr aside), .int (dw aside)], ai G h_aside_0 6 (kd aside), ai G h_aside_1 18 (pl aside), ai G h_aside_2 6 (lf aside), ai G h_aside_3 6 (se aside)]) [7, 8, 9, 10, 11, 13, 14, 15, 16, 17] (by decide) rfl
      have hFc := va_free (wc := [oc h_now 6 [.ref h_now_0, .ref h_now_1, .ref h_now_2, .ref h_now_3, .int (mn now), .int (ma now), .int (yr now), .int (dw now)], ai G h_now_0 6 (kd now), ai G h_now_1 18 (pl now), ai G h_now_2 6 (lf now), ai G h_now_3 6 (se now), oc h_aside 6 [.ref h_aside_0, .ref h_aside_1, .ref h_aside_2, .ref h_aside_3, .int (mn aside), .int (ma aside), .int (yr aside), .int (dw aside)], ai G h_aside_0 6 (kd aside), ai G h_aside_1 18 (pl aside), ai G h_aside_2 6 (lf aside), ai G h_aside_3 6 (se aside)]) hD hS hA [7, 8, 9, 10, 11, 13, 14, 15, 16, 17] rfl
      refine va_callv (va_runV (As := [.ref h_aside]) (rest := []) ⟨hx, hb, hml, hown, hts⟩ (mt_X6_takeFrom l G h_now h_now_0 h_now_1 h_now_2 h_now_3 h_aside h_aside_0 h_aside_1 h_aside_2 h_aside_3 H.size now aside  _ hw) (cwV 1 hts (lw_V q434 q435 q436 q60 q437) rfl rfl rfl (by decide +kernel) ⟨Nat.le_of_ble_eq_true rfl, Nat.le_of_ble_eq_true rfl⟩) ⟨fun a U g mk q => by obtain ⟨q0, q1, qP, qK, qD⟩ := q; exact ⟨q0, q1, qP, qK.call, qD⟩, va_recv hK.1 hP (ci := 6) (q0 := 7) rfl rfl, fun U hU hW => ⟨rfl, by rw [hU], by rw [hU]; exact hPc, hK.warm hW, hDc.weaken (fun _ _ _ _ => trivial)⟩⟩ rfl rfl hl.1 rfl (lv_room (Nat.le_of_ble_eq_true rfl)) dX0_film_115 ⟨Nat.le_of_ble_eq_true rfl, Nat.le_of_ble_eq_true rfl⟩) hS (fun q _ h => hFc q h) hFc (fun u_2 t H1 locs ht hvm hw hB hz1 hk1 hS => ?_)
      obtain ⟨hP1, hD1⟩ := hB
      rw [ht] at hP1
      obtain ⟨hP, hD⟩ := va_join (wr := [oc h 0 [.ref h_kinds, .ref h_now, .ref h_fault, .ref h_tape, .int taped, .int reads, .ref h_got, .ref h_failing, .ref h_past, .int undoMany, .ref h_aside, .ref h_best, .ref h_tried, .ref h_kept, .ref h_keptPast, .int keptMany, .int isKept, .ref h_sheets], ar G h_kinds 5 5 [h_kinds_0, h_kinds_1, h_kinds_2, h_kinds_3, h_kinds_4], oc h_kinds_0 1 [], oc h_kinds_1 2 [], oc h_kinds_2 3 [], oc h_kinds_3 4 [], oc h_kinds_4 5 [], ai G h_failing 6 failing, arf G h_sheets 7 4 shf, oc h_sheets_x 8 [.ref h_sheets_x_r], ay G h_sheets_x_r rn rw]) (w1 := [oc h_now 6 [.ref h_now_0, .ref h_now_1, .ref h_now_2, .ref h_now_3, .int (mn u_2), .int (ma u_2), .int (yr u_2), .int (dw u_2)], ai G h_now_0 6 (kd u_2), ai G h_now_1 18 (pl u_2), ai G h_now_2 6 (lf u_2), ai G h_now_3 6 (se u_2), oc h_aside 6 [.ref h_aside_0, .ref h_aside_1, .ref h_aside_2, .ref h_aside_3, .int (mn aside), .int (ma aside), .int (yr aside), .int (dw aside)], ai G h_aside_0 6 (kd aside), ai G h_aside_1 18 (pl aside), ai G h_aside_2 6 (lf aside), ai G h_aside_3 6 (se aside)]) hP hD [7, 8, 9, 10, 11, 13, 14, 15, 16, 17] [0, 1, 2, 3, 4, 5, 6, 12, 18, 19, 20] rfl rfl (by decide) (by decide) hk1 hFc hP1 hD1
      clear hPc hDc hFc hP1 hD1 hz1 hk1 hvm
      generalize H1 = H at hP hS ⊢
      have hP : va_P G.1 gCl [oc h 0 [.ref h_kinds, .ref h_now, .ref h_fault, .ref h_tape, .int taped, .int reads, .ref h_got, .ref h_failing, .ref h_past, .int undoMany, .ref h_aside, .ref h_best, .ref h_tried, .ref h_kept, .ref h_keptPast, .int keptMany, .int isKept, .ref h_sheets], ar G h_kinds 5 5 [h_kinds_0, h_kinds_1, h_kinds_2, h_kinds_3, h_kinds_4], oc h_kinds_0 1 [], oc h_kinds_1 2 [], oc h_kinds_2 3 [], oc h_kinds_3 4 [], oc h_kinds_4 5 [], ai G h_failing 6 failing, arf G h_sheets 7 4 shf, oc h_sheets_x 8 [.ref h_sheets_x_r], ay G h_sheets_x_r rn rw, oc h_now 6 [.ref h_now_0, .ref h_now_1, .ref h_now_2, .ref h_now_3, .int (mn u_2), .int (ma u_2), .int (yr u_2), .int (dw u_2)], ai G h_now_0 6 (kd u_2), ai G h_now_1 18 (pl u_2), ai G h_now_2 6 (lf u_2), ai G h_now_3 6 (se u_2), oc h_aside 6 [.ref h_aside_0, .ref h_aside_1, .ref h_aside_2, .ref h_aside_3, .int (mn aside), .int (ma aside), .int (yr aside), .int (dw aside)], ai G h_aside_0 6 (kd aside), ai G h_aside_1 18 (pl aside), ai G h_aside_2 6 (lf aside), ai G h_aside_3 6 (se aside)] H := hP
      have hD : va_D A [oc h 0 [.ref h_kinds, .ref h_now, .ref h_fault, .ref h_tape, .int taped, .int reads, .ref h_got, .ref h_failing, .ref h_past, .int undoMany, .ref h_aside, .ref h_best, .ref h_tried, .ref h_kept, .ref h_keptPast, .int keptMany, .int isKept, .ref h_sheets], ar G h_kinds 5 5 [h_kinds_0, h_kinds_1, h_kinds_2, h_kinds_3, h_kinds_4], oc h_kinds_0 1 [], oc h_kinds_1 2 [], oc h_kinds_2 3 [], oc h_kinds_3 4 [], oc h_kinds_4 5 [], ai G h_failing 6 failing, arf G h_sheets 7 4 shf, oc h_sheets_x 8 [.ref h_sheets_x_r], ay G h_sheets_x_r rn rw, oc h_now 6 [.ref h_now_0, .ref h_now_1, .ref h_now_2, .ref h_now_3, .int (mn u_2), .int (ma u_2), .int (yr u_2), .int (dw u_2)], ai G h_now_0 6 (kd u_2), ai G h_now_1 18 (pl u_2), ai G h_now_2 6 (lf u_2), ai G h_now_3 6 (se u_2), oc h_aside 6 [.ref h_aside_0, .ref h_aside_1, .ref h_aside_2, .ref h_aside_3, .int (mn aside), .int (ma aside), .int (yr aside), .int (dw aside)], ai G h_aside_0 6 (kd aside), ai G h_aside_1 18 (pl aside), ai G h_aside_2 6 (lf aside), ai G h_aside_3 6 (se aside)] := hD
      refine lv_iload_n hx hb dX0_film_118 rfl (lv_at hl 2 rfl) ?_
      have hP9 := hP.sub (ws' := [oc h 0 [.ref h_kinds, .ref h_now, .ref h_fault, .ref h_tape, .int taped, .int reads, .ref h_got, .ref h_failing, .ref h_past, .int undoMany, .ref h_aside, .ref h_best, .ref h_tried, .ref h_kept, .ref h_keptPast, .int keptMany, .int isKept, .ref h_sheets], ar G h_kinds 5 5 [h_kinds_0, h_kinds_1, h_kinds_2, h_kinds_3, h_kinds_4], oc h_kinds_0 1 [], oc h_kinds_1 2 [], oc h_kinds_2 3 [], oc h_kinds_3 4 [], oc h_kinds_4 5 [], oc h_now 6 [.ref h_now_0, .ref h_now_1, .ref h_now_2, .ref h_now_3, .int (mn u_2), .int (ma u_2), .int (yr u_2), .int (dw u_2)], ai G h_now_0 6 (kd u_2), ai G h_now_1 18 (pl u_2), ai G h_now_2 6 (lf u_2), ai G h_now_3 6 (se u_2), ai G h_failing 6 failing, oc h_aside 6 [.ref h_aside_0, .ref h_aside_1, .ref h_aside_2, .ref h_aside_3, .int (mn aside), .int (ma aside), .int (yr aside), .int (dw aside)], ai G h_aside_0 6 (kd aside), ai G h_aside_1 18 (pl aside), ai G h_aside_2 6 (lf aside), ai G h_aside_3 6 (se aside), arf G h_sheets 7 4 shf, oc h_sheets_x 8 [.ref h_sheets_x_r], ay G h_sheets_x_r rn rw]) [0, 1, 2, 3, 4, 5, 6, 11, 12, 13, 14, 15, 7, 16, 17, 18, 19, 20, 8, 9, 10] rfl
      have hD9 := hD.sub (ws' := [oc h 0 [.ref h_kinds, .ref h_now, .ref h_fault, .ref h_tape, .int taped, .int reads, .ref h_got, .ref h_failing, .ref h_past, .int undoMany, .ref h_aside, .ref h_best, .ref h_tried, .ref h_kept, .ref h_keptPast, .int keptMany, .int isKept, .ref h_sheets], ar G h_kinds 5 5 [h_kinds_0, h_kinds_1, h_kinds_2, h_kinds_3, h_kinds_4], oc h_kinds_0 1 [], oc h_kinds_1 2 [], oc h_kinds_2 3 [], oc h_kinds_3 4 [], oc h_kinds_4 5 [], oc h_now 6 [.ref h_now_0, .ref h_now_1, .ref h_now_2, .ref h_now_3, .int (mn u_2), .int (ma u_2), .int (yr u_2), .int (dw u_2)], ai G h_now_0 6 (kd u_2), ai G h_now_1 18 (pl u_2), ai G h_now_2 6 (lf u_2), ai G h_now_3 6 (se u_2), ai G h_failing 6 failing, oc h_aside 6 [.ref h_aside_0, .ref h_aside_1, .ref h_aside_2, .ref h_aside_3, .int (mn aside), .int (ma aside), .int (yr aside), .int (dw aside)], ai G h_aside_0 6 (kd aside), ai G h_aside_1 18 (pl aside), ai G h_aside_2 6 (lf aside), ai G h_aside_3 6 (se aside), arf G h_sheets 7 4 shf, oc h_sheets_x 8 [.ref h_sheets_x_r], ay G h_sheets_x_r rn rw]) [0, 1, 2, 3, 4, 5, 6, 11, 12, 13, 14, 15, 7, 16, 17, 18, 19, 20, 8, 9, 10] (by decide) rfl
      exact W.iret (v := p2) hx hb hr (fun t ht hW => ⟨⟨p2, (u_2, failing, aside, rw), rfl, hw, by rw [ht]; exact hP9, hD9⟩, hS.F ht⟩) hS.2.2 dX0_film_119
    · replace hw := hw.2 c_1
      refine lv_aload_n hx hb dX0_film_71 rfl (lv_at hl 0 rfl) ?_
      have hPc := hP.sub (ws' := [oc h 0 [.ref h_kinds, .ref h_now, .ref h_fault, .ref h_tape, .int taped, .int reads, .ref h_got, .ref h_failing, .ref h_past, .int undoMany, .ref h_aside, .ref h_best, .ref h_tried, .ref h_kept, .ref h_keptPast, .int keptMany, .int isKept, .ref h_sheets], ar G h_kinds 5 5 [h_kinds_0, h_kinds_1, h_kinds_2, h_kinds_3, h_kinds_4], oc h_kinds_0 1 [], oc h_kinds_1 2 [], oc h_kinds_2 3 [], oc h_kinds_3 4 [], oc h_kinds_4 5 [], oc h_now 6 [.ref h_now_0, .ref h_now_1, .ref h_now_2, .ref h_now_3, .int (mn now), .int (ma now), .int (yr now), .int (dw now)], ai G h_now_0 6 (kd now), ai G h_now_1 18 (pl now), ai G h_now_2 6 (lf now), ai G h_now_3 6 (se now), ai G h_failing 6 failing]) [0, 1, 2, 3, 4, 5, 6, 7, 8, 9, 10, 11, 12] rfl
      have hDc := hD.sub (ws' := [oc h 0 [.ref h_kinds, .ref h_now, .ref h_fault, .ref h_tape, .int taped, .int reads, .ref h_got, .ref h_failing, .ref h_past, .int undoMany, .ref h_aside, .ref h_best, .ref h_tried, .ref h_kept, .ref h_keptPast, .int keptMany, .int isKept, .ref h_sheets], ar G h_kinds 5 5 [h_kinds_0, h_kinds_1, h_kinds_2, h_kinds_3, h_kinds_4], oc h_kinds_0 1 [], oc h_kinds_1 2 [], oc h_kinds_2 3 [], oc h_kinds_3 4 [], oc h_kinds_4 5 [], oc h_now 6 [.ref h_now_0, .ref h_now_1, .ref h_now_2, .ref h_now_3, .int (mn now), .int (ma now), .int (yr now), .int (dw now)], ai G h_now_0 6 (kd now), ai G h_now_1 18 (pl now), ai G h_now_2 6 (lf now), ai G h_now_3 6 (se now), ai G h_failing 6 failing]) [0, 1, 2, 3, 4, 5, 6, 7, 8, 9, 10, 11, 12] (by decide) rfl
      have hFc := va_free (wc := [oc h 0 [.ref h_kinds, .ref h_now, .ref h_fault, .ref h_tape, .int taped, .int reads, .ref h_got, .ref h_failing, .ref h_past, .int undoMany, .ref h_aside, .ref h_best, .ref h_tried, .ref h_kept, .ref h_keptPast, .int keptMany, .int isKept, .ref h_sheets], ar G h_kinds 5 5 [h_kinds_0, h_kinds_1, h_kinds_2, h_kinds_3, h_kinds_4], oc h_kinds_0 1 [], oc h_kinds_1 2 [], oc h_kinds_2 3 [], oc h_kinds_3 4 [], oc h_kinds_4 5 [], oc h_now 6 [.ref h_now_0, .ref h_now_1, .ref h_now_2, .ref h_now_3, .int (mn now), .int (ma now), .int (yr now), .int (dw now)], ai G h_now_0 6 (kd now), ai G h_now_1 18 (pl now), ai G h_now_2 6 (lf now), ai G h_now_3 6 (se now), ai G h_failing 6 failing]) hD hS hA [0, 1, 2, 3, 4, 5, 6, 7, 8, 9, 10, 11, 12] rfl
      refine va_callv (va_runV (As := []) (rest := []) ⟨hx, hb, hml, hown, hts⟩ (mt_X0_oneYear l G h h_kinds h_now h_fault h_tape h_got h_failing h_past h_aside h_best h_tried h_kept h_keptPast h_sheets h_kinds_0 h_kinds_1 h_kinds_2 h_kinds_3 h_kinds_4 h_now_0 h_now_1 h_now_2 h_now_3 H.size taped reads undoMany keptMany isKept now failing  _ hw) (cwV 0 hts (lw_V q514 q516 qs16 q54 q517) rfl rfl rfl (by decide +kernel) ⟨Nat.le_of_ble_eq_true rfl, Nat.le_of_ble_eq_true rfl⟩) ⟨fun a U g mk q => by obtain ⟨q0, q1, qP, qK, qD⟩ := q; exact ⟨q0, q1, qP, qK.call, qD⟩, va_recv hK.1 hP (ci := 0) (q0 := 0) rfl rfl, fun U hU hW => ⟨rfl, by rw [hU], by rw [hU]; exact hPc, hK.warm hW, hDc.weaken (fun _ _ _ _ => trivial)⟩⟩ rfl rfl hl.1 rfl (lv_room (Nat.le_of_ble_eq_true rfl)) dX0_film_72 ⟨Nat.le_of_ble_eq_true rfl, Nat.le_of_ble_eq_true rfl⟩) hS (fun q _ h => hFc q h) hFc (fun u_3 t H1 locs ht hvm hw hB hz1 hk1 hS => ?_)
      obtain ⟨hP1, hD1⟩ := hB
      rw [ht] at hP1
      obtain ⟨hP, hD⟩ := va_join (wr := [oc h_aside 6 [.ref h_aside_0, .ref h_aside_1, .ref h_aside_2, .ref h_aside_3, .int (mn aside), .int (ma aside), .int (yr aside), .int (dw aside)], ai G h_aside_0 6 (kd aside), ai G h_aside_1 18 (pl aside), ai G h_aside_2 6 (lf aside), ai G h_aside_3 6 (se aside), arf G h_sheets 7 4 shf, oc h_sheets_x 8 [.ref h_sheets_x_r], ay G h_sheets_x_r rn rw]) (w1 := [oc h 0 [.ref h_kinds, .ref h_now, .ref h_fault, .ref h_tape, .int taped, .int reads, .ref h_got, .ref h_failing, .ref h_past, .int undoMany, .ref h_aside, .ref h_best, .ref h_tried, .ref h_kept, .ref h_keptPast, .int keptMany, .int isKept, .ref h_sheets], ar G h_kinds 5 5 [h_kinds_0, h_kinds_1, h_kinds_2, h_kinds_3, h_kinds_4], oc h_kinds_0 1 [], oc h_kinds_1 2 [], oc h_kinds_2 3 [], oc h_kinds_3 4 [], oc h_kinds_4 5 [], oc h_now 6 [.ref h_now_0, .ref h_now_1, .ref h_now_2, .ref h_now_3, .int (mn u_3.1), .int (ma u_3.1), .int (yr u_3.1), .int (dw u_3.1)], ai G h_now_0 6 (kd u_3.1), ai G h_now_1 18 (pl u_3.1), ai G h_now_2 6 (lf u_3.1), ai G h_now_3 6 (se u_3.1), ai G h_failing 6 u_3.2]) hP hD [0, 1, 2, 3, 4, 5, 6, 7, 8, 9, 10, 11, 12] [13, 14, 15, 16, 17, 18, 19, 20] rfl rfl (by decide) (by decide) hk1 hFc hP1 hD1
      clear hPc hDc hFc hP1 hD1 hz1 hk1 hvm
      generalize H1 = H at hP hS ⊢
      have hP : va_P G.1 gCl [oc h_aside 6 [.ref h_aside_0, .ref h_aside_1, .ref h_aside_2, .ref h_aside_3, .int (mn aside), .int (ma aside), .int (yr aside), .int (dw aside)], ai G h_aside_0 6 (kd aside), ai G h_aside_1 18 (pl aside), ai G h_aside_2 6 (lf aside), ai G h_aside_3 6 (se aside), arf G h_sheets 7 4 shf, oc h_sheets_x 8 [.ref h_sheets_x_r], ay G h_sheets_x_r rn rw, oc h 0 [.ref h_kinds, .ref h_now, .ref h_fault, .ref h_tape, .int taped, .int reads, .ref h_got, .ref h_failing, .ref h_past, .int undoMany, .ref h_aside, .ref h_best, .ref h_tried, .ref h_kept, .ref h_keptPast, .int keptMany, .int isKept, .ref h_sheets], ar G h_kinds 5 5 [h_kinds_0, h_kinds_1, h_kinds_2, h_kinds_3, h_kinds_4], oc h_kinds_0 1 [], oc h_kinds_1 2 [], oc h_kinds_2 3 [], oc h_kinds_3 4 [], oc h_kinds_4 5 [], oc h_now 6 [.ref h_now_0, .ref h_now_1, .ref h_now_2, .ref h_now_3, .int (mn u_3.1), .int (ma u_3.1), .int (yr u_3.1), .int (dw u_3.1)], ai G h_now_0 6 (kd u_3.1), ai G h_now_1 18 (pl u_3.1), ai G h_now_2 6 (lf u_3.1), ai G h_now_3 6 (se u_3.1), ai G h_failing 6 u_3.2] H := hP
      have hD : va_D A [oc h_aside 6 [.ref h_aside_0, .ref h_aside_1, .ref h_aside_2, .ref h_aside_3, .int (mn aside), .int (ma aside), .int (yr aside), .int (dw aside)], ai G h_aside_0 6 (kd aside), ai G h_aside_1 18 (pl aside), ai G h_aside_2 6 (lf aside), ai G h_aside_3 6 (se aside), arf G h_sheets 7 4 shf, oc h_sheets_x 8 [.ref h_sheets_x_r], ay G h_sheets_x_r rn rw, oc h 0 [.ref h_kinds, .ref h_now, .ref h_fault, .ref h_tape, .int taped, .int reads, .ref h_got, .ref h_failing, .ref h_past, .int undoMany, .ref h_aside, .ref h_best, .ref h_tried, .ref h_kept, .ref h_keptPast, .int keptMany, .int isKept, .ref h_sheets], ar G h_kinds 5 5 [h_kinds_0, h_kinds_1, h_kinds_2, h_kinds_3, h_kinds_4], oc h_kinds_0 1 [], oc h_kinds_1 2 [], oc h_kinds_2 3 [], oc h_kinds_3 4 [], oc h_kinds_4 5 [], oc h_now 6 [.ref h_now_0, .ref h_now_1, .ref h_now_2, .ref h_now_3, .int (mn u_3.1), .int (ma u_3.1), .int (yr u_3.1), .int (dw u_3.1)], ai G h_now_0 6 (kd u_3.1), ai G h_now_1 18 (pl u_3.1), ai G h_now_2 6 (lf u_3.1), ai G h_now_3 6 (se u_3.1), ai G h_failing 6 u_3.2] := hD
      refine lv_aload_n hx hb dX0_film_75 rfl (lv_at hl 0 rfl) ?_
      refine va_get (D := G.1) (ci := 0) (v := .ref h_sheets) (C := RX0) (T := TX0) (N := 18) hx hb hts in_X0 hown hK.1 hP 8 rfl rfl 17 (by decide) (hts _ q273) (fun _ h9 => h9) rfl dX0_film_76 ?_
      refine lv_iload_n hx hb dX0_film_79 rfl (lv_at hl 3 rfl) ?_
      obtain ⟨i_4, hw⟩ := hw
      refine z_aaldS hx hb hK.1 hP 5 7 rfl rfl i_4 dX0_film_80 hsh ?_
      refine lv_iload hx hb dX0_film_81 (lv_at hl 4 rfl) ?_
      refine lv_iload hx hb dX0_film_83 (lv_at hl 5 rfl) ?_
      refine lv_iload hx hb dX0_film_85 (lv_at hl 6 rfl) ?_
      refine lv_iadd hx hb dX0_film_87 ?_
      refine lv_aload_n hx hb dX0_film_88 rfl (lv_at hl 0 rfl) ?_
      refine va_get (D := G.1) (ci := 0) (v := .ref h_now) (C := RX0) (T := TX0) (N := 18) hx hb hts in_X0 hown hK.1 hP 8 rfl rfl 1 (by decide) (hts _ q257) (fun _ h9 => h9) rfl dX0_film_89 ?_
      refine va_getN (D := G.1) (ci := 6) (v := .ref h_now_2) (C := RX6) (T := TX6) (N := 8) hx hb hts in_X6 hown hK.1 hP 15 rfl rfl 2 (by decide) (hK.n q132 rfl) (fun _ h9 => h9) rfl dX0_film_92 ?_
      refine lv_iload_n hx hb dX0_film_95 rfl (lv_at hl 1 rfl) ?_
      obtain ⟨i_5, hw⟩ := hw
      refine z_iald hx hb hK.1 hP 18 0 rfl rfl i_5 dX0_film_96 (k := p1.toNatClampNeg) rfl ?_
      refine lv_i2l hx hb dX0_film_97 rfl ?_
      have hPc := hP.sub (ws' := [oc h_sheets_x 8 [.ref h_sheets_x_r], ay G h_sheets_x_r rn rw]) [6, 7] rfl
      have hDc := hD.sub (ws' := [oc h_sheets_x 8 [.ref h_sheets_x_r], ay G h_sheets_x_r rn rw]) [6, 7] (by decide) rfl
      have hFc := va_free (wc := [oc h_sheets_x 8 [.ref h_sheets_x_r], ay G h_sheets_x_r rn rw]) hD hS hA [6, 7] rfl
      refine va_callv (va_runV (As := [.int p4, .int (p5 + x7), .long (Int32.toInt64 ((lf u_3.1) p1.toNatClampNeg))]) (rest := []) ⟨hx, hb, hml, hown, hts⟩ (mt_X8_lay_B l G h_sheets_x h_sheets_x_r H.size rn rw p4 (p5 + x7) (Int32.toInt64 ((lf u_3.1) p1.toNatClampNeg)) _ hw) (cwV 3 hts (lw_V q686 q687 q688 q64 q689) rfl rfl rfl (by decide +kernel) ⟨Nat.le_of_ble_eq_true rfl, Nat.le_of_ble_eq_true rfl⟩) ⟨fun a U g mk q => by obtain ⟨q0, q1, qP, qK, qD⟩ := q; exact ⟨q0, q1, qP, qK.call, qD⟩, va_recv hK.1 hP (ci := 8) (q0 := 6) rfl rfl, fun U hU hW => ⟨rfl, by rw [hU], by rw [hU]; exact hPc, hK.warm hW, hDc.weaken (fun _ _ _ _ => trivial)⟩⟩ rfl rfl hl.1 rfl (lv_room (Nat.le_of_ble_eq_true rfl)) dX0_film_98 ⟨Nat.le_of_ble_eq_true rfl, Nat.le_of_ble_eq_true rfl⟩) hS (fun q _ h => hFc q h) hFc (fun u_6 t H1 locs ht hvm hw hB hz1 hk1 hS => ?_)
      obtain ⟨hP1, hD1⟩ := hB
      rw [ht] at hP1
      obtain ⟨hP, hD⟩ := va_join (wr := [oc h_aside 6 [.ref h_aside_0, .ref h_aside_1, .ref h_aside_2, .ref h_aside_3, .int (mn aside), .int (ma aside), .int (yr aside), .int (dw aside)], ai G h_aside_0 6 (kd aside), ai G h_aside_1 18 (pl aside), ai G h_aside_2 6 (lf aside), ai G h_aside_3 6 (se aside), arf G h_sheets 7 4 shf, oc h 0 [.ref h_kinds, .ref h_now, .ref h_fault, .ref h_tape, .int taped, .int reads, .ref h_got, .ref h_failing, .ref h_past, .int undoMany, .ref h_aside, .ref h_best, .ref h_tried, .ref h_kept, .ref h_keptPast, .int keptMany, .int isKept, .ref h_sheets], ar G h_kinds 5 5 [h_kinds_0, h_kinds_1, h_kinds_2, h_kinds_3, h_kinds_4], oc h_kinds_0 1 [], oc h_kinds_1 2 [], oc h_kinds_2 3 [], oc h_kinds_3 4 [], oc h_kinds_4 5 [], oc h_now 6 [.ref h_now_0, .ref h_now_1, .ref h_now_2, .ref h_now_3, .int (mn u_3.1), .int (ma u_3.1), .int (yr u_3.1), .int (dw u_3.1)], ai G h_now_0 6 (kd u_3.1), ai G h_now_1 18 (pl u_3.1), ai G h_now_2 6 (lf u_3.1), ai G h_now_3 6 (se u_3.1), ai G h_failing 6 u_3.2]) (w1 := [oc h_sheets_x 8 [.ref h_sheets_x_r], ay G h_sheets_x_r rn u_6]) hP hD [6, 7] [0, 1, 2, 3, 4, 5, 8, 9, 10, 11, 12, 13, 14, 15, 16, 17, 18, 19, 20] rfl rfl (by decide) (by decide) hk1 hFc hP1 hD1
      clear hPc hDc hFc hP1 hD1 hz1 hk1 hvm
      generalize H1 = H at hP hS ⊢
      have hP : va_P G.1 gCl [oc h_aside 6 [.ref h_aside_0, .ref h_aside_1, .ref h_aside_2, .ref h_aside_3, .int (mn aside), .int (ma aside), .int (yr aside), .int (dw aside)], ai G h_aside_0 6 (kd aside), ai G h_aside_1 18 (pl aside), ai G h_aside_2 6 (lf aside), ai G h_aside_3 6 (se aside), arf G h_sheets 7 4 shf, oc h 0 [.ref h_kinds, .ref h_now, .ref h_fault, .ref h_tape, .int taped, .int reads, .ref h_got, .ref h_failing, .ref h_past, .int undoMany, .ref h_aside, .ref h_best, .ref h_tried, .ref h_kept, .ref h_keptPast, .int keptMany, .int isKept, .ref h_sheets], ar G h_kinds 5 5 [h_kinds_0, h_kinds_1, h_kinds_2, h_kinds_3, h_kinds_4], oc h_kinds_0 1 [], oc h_kinds_1 2 [], oc h_kinds_2 3 [], oc h_kinds_3 4 [], oc h_kinds_4 5 [], oc h_now 6 [.ref h_now_0, .ref h_now_1, .ref h_now_2, .ref h_now_3, .int (mn u_3.1), .int (ma u_3.1), .int (yr u_3.1), .int (dw u_3.1)], ai G h_now_0 6 (kd u_3.1), ai G h_now_1 18 (pl u_3.1), ai G h_now_2 6 (lf u_3.1), ai G h_now_3 6 (se u_3.1), ai G h_failing 6 u_3.2, oc h_sheets_x 8 [.ref h_sheets_x_r], ay G h_sheets_x_r rn u_6] H := hP
      have hD : va_D A [oc h_aside 6 [.ref h_aside_0, .ref h_aside_1, .ref h_aside_2, .ref h_aside_3, .int (mn aside), .int (ma aside), .int (yr aside), .int (dw aside)], ai G h_aside_0 6 (kd aside), ai G h_aside_1 18 (pl aside), ai G h_aside_2 6 (lf aside), ai G h_aside_3 6 (se aside), arf G h_sheets 7 4 shf, oc h 0 [.ref h_kinds, .ref h_now, .ref h_fault, .ref h_tape, .int taped, .int reads, .ref h_got, .ref h_failing, .ref h_past, .int undoMany, .ref h_aside, .ref h_best, .ref h_tried, .ref h_kept, .ref h_keptPast, .int keptMany, .int isKept, .ref h_sheets], ar G h_kinds 5 5 [h_kinds_0, h_kinds_1, h_kinds_2, h_kinds_3, h_kinds_4], oc h_kinds_0 1 [], oc h_kinds_1 2 [], oc h_kinds_2 3 [], oc h_kinds_3 4 [], oc h_kinds_4 5 [], oc h_now 6 [.ref h_now_0, .ref h_now_1, .ref h_now_2, .ref h_now_3, .int (mn u_3.1), .int (ma u_3.1), .int (yr u_3.1), .int (dw u_3.1)], ai G h_now_0 6 (kd u_3.1), ai G h_now_1 18 (pl u_3.1), ai G h_now_2 6 (lf u_3.1), ai G h_now_3 6 (se u_3.1), ai G h_failing 6 u_3.2, oc h_sheets_x 8 [.ref h_sheets_x_r], ay G h_sheets_x_r rn u_6] := hD
      refine lv_iinc (v := (x7 + (1 : Int32))) (lv' := [(7, .int (x7 + (1 : Int32))), (0, .ref h), (1, .int p1), (2, .int p2), (3, .int p3), (4, .int p4), (5, .int p5)]) hx hb dX0_film_101 hl (k := 6) rfl rfl (by decide) rfl (fun ls hl => ?_)
      refine lv_goto (tgt := 65) hx hb dX0_film_104 (by decide) ?_
      exact ih u_3.1 u_3.2 aside u_6 (x7 + (1 : Int32)) H locs (hP.sub [6, 7, 8, 9, 10, 11, 12, 13, 14, 15, 16, 17, 18, 0, 1, 2, 3, 4, 5, 19, 20] rfl) (hD.sub [6, 7, 8, 9, 10, 11, 12, 13, 14, 15, 16, 17, 18, 0, 1, 2, 3, 4, 5, 19, 20] (by decide) rfl) hS ls (lv_sub hl [1, 2, 3, 4, 5, 6, 0] rfl) hw
def wp_X0_film_B (now : BT) (failing : Nat → Int32) (aside : BT) (rn : Nat) (rw : Nat → Int32) (p1 : Int32) (p2 : Int32) (p3 : Int32) (p4 : Int32) (p5 : Int32) (Q : Int32 → (BT × (Nat → Int32) × BT × (Nat → Int32)) → Prop) : Prop :=
  wp_X0_isMan now p1 (fun r_1 => (((r_1 = 0) → Q (-1 : Int32) (now, failing, aside, rw)) ∧ (¬ (r_1 = 0) → wp_X0_isIn  (Int32.toInt64 p2) (1 : Int64) (24 : Int64) (fun r_3 => (((r_3 = 0) → Q (-1 : Int32) (now, failing, aside, rw)) ∧ (¬ (r_3 = 0) → wp_X0_isSheet  p3 p4 (fun r_5 => ((¬ (r_5 = 0) → wp_X0_lacks_B rn rw p3 p4 p5 p2 (fun r_7 => (((0 ≤ r_7) → wp_X6_takeFrom aside now  (fun u_9 => (∃ j_ : Nat, wp_X0_film_B_65 rn p1 p2 p3 p4 p5 Q  j_ now failing u_9 rw (0 : Int32)))) ∧ (¬ (0 ≤ r_7) → Q r_7 (now, failing, aside, rw))))) ∧ ((r_5 = 0) → Q (-1 : Int32) (now, failing, aside, rw))))))))))
set_option maxHeartbeats 4000000 in
theorem mt_X0_film_B (l : Launch) (G : GT) (h h_kinds h_now h_fault h_tape h_got h_failing h_past h_aside h_best h_tried h_kept h_keptPast h_sheets h_kinds_0 h_kinds_1 h_kinds_2 h_kinds_3 h_kinds_4 h_now_0 h_now_1 h_now_2 h_now_3 h_aside_0 h_aside_1 h_aside_2 h_aside_3 h_sheets_x h_sheets_x_r : Nat) (shf : Nat → Option Nat) (sz : Nat) (taped : Int32) (reads : Int32) (undoMany : Int32) (keptMany : Int32) (isKept : Int32) (now : BT) (failing : Nat → Int32) (aside : BT) (rn : Nat) (rw : Nat → Int32) (p1 : Int32) (p2 : Int32) (p3 : Int32) (p4 : Int32) (p5 : Int32)(hsh : shf p3.toNatClampNeg = some h_sheets_x) (Q : Int32 → (BT × (Nat → Int32) × BT × (Nat → Int32)) → Prop) (hw : wp_X0_film_B now failing aside rn rw p1 p2 p3 p4 p5 Q) : Met l yX0_film (ws_ yX0_film cX0_film 8 (some .int)) ({ frames := 8, cells := 0, slots := 0, locals := 202 } : Room) (va_Pc [.ref h, .int p1, .int p2, .int p3, .int p4, .int p5] (fun U => U.heap.size = sz ∧ va_P G.1 gCl [oc h 0 [.ref h_kinds, .ref h_now, .ref h_fault, .ref h_tape, .int taped, .int reads, .ref h_got, .ref h_failing, .ref h_past, .int undoMany, .ref h_aside, .ref h_best, .ref h_tried, .ref h_kept, .ref h_keptPast, .int keptMany, .int isKept, .ref h_sheets], ar G h_kinds 5 5 [h_kinds_0, h_kinds_1, h_kinds_2, h_kinds_3, h_kinds_4], oc h_kinds_0 1 [], oc h_kinds_1 2 [], oc h_kinds_2 3 [], oc h_kinds_3 4 [], oc h_kinds_4 5 [], oc h_now 6 [.ref h_now_0, .ref h_now_1, .ref h_now_2, .ref h_now_3, .int (mn now), .int (ma now), .int (yr now), .int (dw now)], ai G h_now_0 6 (kd now), ai G h_now_1 18 (pl now), ai G h_now_2 6 (lf now), ai G h_now_3 6 (se now), ai G h_failing 6 failing, oc h_aside 6 [.ref h_aside_0, .ref h_aside_1, .ref h_aside_2, .ref h_aside_3, .int (mn aside), .int (ma aside), .int (yr aside), .int (dw aside)], ai G h_aside_0 6 (kd aside), ai G h_aside_1 18 (pl aside), ai G h_aside_2 6 (lf aside), ai G h_aside_3 6 (se aside), arf G h_sheets 7 4 shf, oc h_sheets_x 8 [.ref h_sheets_x_r], ay G h_sheets_x_r rn rw] U.heap ∧ gK G U ∧ va_D (fun _ => True) [oc h 0 [.ref h_kinds, .ref h_now, .ref h_fault, .ref h_tape, .int taped, .int reads, .ref h_got, .ref h_failing, .ref h_past, .int undoMany, .ref h_aside, .ref h_best, .ref h_tried, .ref h_kept, .ref h_keptPast, .int keptMany, .int isKept, .ref h_sheets], ar G h_kinds 5 5 [h_kinds_0, h_kinds_1, h_kinds_2, h_kinds_3, h_kinds_4], oc h_kinds_0 1 [], oc h_kinds_1 2 [], oc h_kinds_2 3 [], oc h_kinds_3 4 [], oc h_kinds_4 5 [], oc h_now 6 [.ref h_now_0, .ref h_now_1, .ref h_now_2, .ref h_now_3, .int (mn now), .int (ma now), .int (yr now), .int (dw now)], ai G h_now_0 6 (kd now), ai G h_now_1 18 (pl now), ai G h_now_2 6 (lf now), ai G h_now_3 6 (se now), ai G h_failing 6 failing, oc h_aside 6 [.ref h_aside_0, .ref h_aside_1, .ref h_aside_2, .ref h_aside_3, .int (mn aside), .int (ma aside), .int (yr aside), .int (dw aside)], ai G h_aside_0 6 (kd aside), ai G h_aside_1 18 (pl aside), ai G h_aside_2 6 (lf aside), ai G h_aside_3 6 (se aside), arf G h_sheets 7 4 shf, oc h_sheets_x 8 [.ref h_sheets_x_r], ay G h_sheets_x_r rn rw])) ((fun A => (va_Qi (fun (r : Int32) (u : BT × (Nat → Int32) × BT × (Nat → Int32)) => Q r u) (fun u t => va_P G.1 gCl [oc h 0 [.ref h_kinds, .ref h_now, .ref h_fault, .ref h_tape, .int taped, .int reads, .ref h_got, .ref h_failing, .ref h_past, .int undoMany, .ref h_aside, .ref h_best, .ref h_tried, .ref h_kept, .ref h_keptPast, .int keptMany, .int isKept, .ref h_sheets], ar G h_kinds 5 5 [h_kinds_0, h_kinds_1, h_kinds_2, h_kinds_3, h_kinds_4], oc h_kinds_0 1 [], oc h_kinds_1 2 [], oc h_kinds_2 3 [], oc h_kinds_3 4 [], oc h_kinds_4 5 [], oc h_now 6 [.ref h_now_0, .ref h_now_1, .ref h_now_2, .ref h_now_3, .int (mn u.1), .int (ma u.1), .int (yr u.1), .int (dw u.1)], ai G h_now_0 6 (kd u.1), ai G h_now_1 18 (pl u.1), ai G h_now_2 6 (lf u.1), ai G h_now_3 6 (se u.1), ai G h_failing 6 u.2.1, oc h_aside 6 [.ref h_aside_0, .ref h_aside_1, .ref h_aside_2, .ref h_aside_3, .int (mn u.2.2.1), .int (ma u.2.2.1), .int (yr u.2.2.1), .int (dw u.2.2.1)], ai G h_aside_0 6 (kd u.2.2.1), ai G h_aside_1 18 (pl u.2.2.1), ai G h_aside_2 6 (lf u.2.2.1), ai G h_aside_3 6 (se u.2.2.1), arf G h_sheets 7 4 shf, oc h_sheets_x 8 [.ref h_sheets_x_r], ay G h_sheets_x_r rn u.2.2.2] t.heap ∧ va_D A [oc h 0 [.ref h_kinds, .ref h_now, .ref h_fault, .ref h_tape, .int taped, .int reads, .ref h_got, .ref h_failing, .ref h_past, .int undoMany, .ref h_aside, .ref h_best, .ref h_tried, .ref h_kept, .ref h_keptPast, .int keptMany, .int isKept, .ref h_sheets], ar G h_kinds 5 5 [h_kinds_0, h_kinds_1, h_kinds_2, h_kinds_3, h_kinds_4], oc h_kinds_0 1 [], oc h_kinds_1 2 [], oc h_kinds_2 3 [], oc h_kinds_3 4 [], oc h_kinds_4 5 [], oc h_now 6 [.ref h_now_0, .ref h_now_1, .ref h_now_2, .ref h_now_3, .int (mn u.1), .int (ma u.1), .int (yr u.1), .int (dw u.1)], ai G h_now_0 6 (kd u.1), ai G h_now_1 18 (pl u.1), ai G h_now_2 6 (lf u.1), ai G h_now_3 6 (se u.1), ai G h_failing 6 u.2.1, oc h_aside 6 [.ref h_aside_0, .ref h_aside_1, .ref h_aside_2, .ref h_aside_3, .int (mn u.2.2.1), .int (ma u.2.2.1), .int (yr u.2.2.1), .int (dw u.2.2.1)], ai G h_aside_0 6 (kd u.2.2.1), ai G h_aside_1 18 (pl u.2.2.1), ai G h_aside_2 6 (lf u.2.2.1), ai G h_aside_3 6 (se u.2.2.1), arf G h_sheets 7 4 shf, oc h_sheets_x 8 [.ref h_sheets_x_r], ay G h_sheets_x_r rn u.2.2.2]) A)) (va_A [oc h 0 [.ref h_kinds, .ref h_now, .ref h_fault, .ref h_tape, .int taped, .int reads, .ref h_got, .ref h_failing, .ref h_past, .int undoMany, .ref h_aside, .ref h_best, .ref h_tried, .ref h_kept, .ref h_keptPast, .int keptMany, .int isKept, .ref h_sheets], ar G h_kinds 5 5 [h_kinds_0, h_kinds_1, h_kinds_2, h_kinds_3, h_kinds_4], oc h_kinds_0 1 [], oc h_kinds_1 2 [], oc h_kinds_2 3 [], oc h_kinds_3 4 [], oc h_kinds_4 5 [], oc h_now 6 [.ref h_now_0, .ref h_now_1, .ref h_now_2, .ref h_now_3, .int (mn now), .int (ma now), .int (yr now), .int (dw now)], ai G h_now_0 6 (kd now), ai G h_now_1 18 (pl now), ai G h_now_2 6 (lf now), ai G h_now_3 6 (se now), ai G h_failing 6 failing, oc h_aside 6 [.ref h_aside_0, .ref h_aside_1, .ref h_aside_2, .ref h_aside_3, .int (mn aside), .int (ma aside), .int (yr aside), .int (dw aside)], ai G h_aside_0 6 (kd aside), ai G h_aside_1 18 (pl aside), ai G h_aside_2 6 (lf aside), ai G h_aside_3 6 (se aside), arf G h_sheets 7 4 shf, oc h_sheets_x 8 [.ref h_sheets_x_r], ay G h_sheets_x_r rn rw] sz)) 0 0 (va_A [oc h 0 [.ref h_kinds, .ref h_now, .ref h_fault, .ref h_tape, .int taped, .int reads, .ref h_got, .ref h_failing, .ref h_past, .int undoMany, .ref h_aside, .ref h_best, .ref h_tried, .ref h_kept, .ref h_keptPast, .int keptMany, .int isKept, .ref h_sheets], ar G h_kinds 5 5 [h_kinds_0, h_kinds_1, h_kinds_2, h_kinds_3, h_kinds_4], oc h_kinds_0 1 [], oc h_kinds_1 2 [], oc h_kinds_2 3 [], oc h_kinds_3 4 [], oc h_kinds_4 5 [], oc h_now 6 [.ref h_now_0, .ref h_now_1, .ref h_now_2, .ref h_now_3, .int (mn now), .int (ma now), .int (yr now), .int (dw now)], ai G h_now_0 6 (kd now), ai G h_now_1 18 (pl now), ai G h_now_2 6 (lf now), ai G h_now_3 6 (se now), ai G h_failing 6 failing, oc h_aside 6 [.ref h_aside_0, .ref h_aside_1, .ref h_aside_2, .ref h_aside_3, .int (mn aside), .int (ma aside), .int (yr aside), .int (dw aside)], ai G h_aside_0 6 (kd aside), ai G h_aside_1 18 (pl aside), ai G h_aside_2 6 (lf aside), ai G h_aside_3 6 (se aside), arf G h_sheets 7 4 shf, oc h_sheets_x 8 [.ref h_sheets_x_r], ay G h_sheets_x_r rn rw] sz) := by
  refine Met.ofW (cc := cX0_film) (maxL := 8) (ret := (some .int)) (by decide) rfl ?_
  intro p e s m args below meth c s₁ B hml hv
  obtain ⟨rfl, hsz, hP, hK, hD0⟩ := hv
  have hx := B.exec
  have hb := B.bytes
  have hr := B.returns
  have hts := atoms_spec (ws := (ws_ yX0_film cX0_film 8 (some .int))) B.pre
  have hts : ∀ w ∈ lw_all, w.before _ s = true := fun w h => hts w (List.mem_cons_of_mem _ h)
  have hown : s.vm.findClass RX0 = some m.cls := findClass_of_methodNamed B.named
  have hlocks := B.notSynchronized
  subst hsz
  have hD := hD0.self (sz := s.heap.size)
  generalize hAe : va_A [oc h 0 [.ref h_kinds, .ref h_now, .ref h_fault, .ref h_tape, .int taped, .int reads, .ref h_got, .ref h_failing, .ref h_past, .int undoMany, .ref h_aside, .ref h_best, .ref h_tried, .ref h_kept, .ref h_keptPast, .int keptMany, .int isKept, .ref h_sheets], ar G h_kinds 5 5 [h_kinds_0, h_kinds_1, h_kinds_2, h_kinds_3, h_kinds_4], oc h_kinds_0 1 [], oc h_kinds_1 2 [], oc h_kinds_2 3 [], oc h_kinds_3 4 [], oc h_kinds_4 5 [], oc h_now 6 [.ref h_now_0, .ref h_now_1, .ref h_now_2, .ref h_now_3, .int (mn now), .int (ma now), .int (yr now), .int (dw now)], ai G h_now_0 6 (kd now), ai G h_now_1 18 (pl now), ai G h_now_2 6 (lf now), ai G h_now_3 6 (se now), ai G h_failing 6 failing, oc h_aside 6 [.ref h_aside_0, .ref h_aside_1, .ref h_aside_2, .ref h_aside_3, .int (mn aside), .int (ma aside), .int (yr aside), .int (dw aside)], ai G h_aside_0 6 (kd aside), ai G h_aside_1 18 (pl aside), ai G h_aside_2 6 (lf aside), ai G h_aside_3 6 (se aside), arf G h_sheets 7 4 shf, oc h_sheets_x 8 [.ref h_sheets_x_r], ay G h_sheets_x_r rn rw] s.heap.size = A at hD ⊢
  have hA : ∀ q : Nat, s.heap.size ≤ q → A q := fun q h => by rw [← hAe]; exact Or.inr h
  have hS : va_S A s.heap s.heap [] := va_S.rf
  have C : Cx p s m meth c cX0_film 8 (some .int) RX0 ([.ref h, .int p1, .int p2, .int p3, .int p4, .int p5] : List Value).toArray G A := ⟨hx, hb, hr, hlocks, hml, hown, hts, hK, hA⟩
  have hl := lv_entry ([.ref h, .int p1, .int p2, .int p3, .int p4, .int p5]) (n := 8) (Nat.le_of_ble_eq_true rfl)
  rw [lg_entry_eq]
  generalize (lg_sl ([.ref h, .int p1, .int p2, .int p3, .int p4, .int p5]) ++ List.replicate (8 - (lg_sl ([.ref h, .int p1, .int p2, .int p3, .int p4, .int p5])).length) Slot.unset).toArray = ls at hl ⊢
  have hl : lv_has ls 8 [(0, .ref h), (1, .int p1), (2, .int p2), (3, .int p3), (4, .int p4), (5, .int p5)] := hl
  unfold wp_X0_film_B at hw
  refine lv_aload_n hx hb dX0_film_0 rfl (lv_at hl 0 rfl) ?_
  refine lv_iload_n hx hb dX0_film_1 rfl (lv_at hl 1 rfl) ?_
  have hPc := hP.sub (ws' := [oc h 0 [.ref h_kinds, .ref h_now, .ref h_fault, .ref h_tape, .int taped, .int reads, .ref h_got, .ref h_failing, .ref h_past, .int undoMany, .ref h_aside, .ref h_best, .ref h_tried, .ref h_kept, .ref h_keptPast, .int keptMany, .int isKept, .ref h_sheets], oc h_now 6 [.ref h_now_0, .ref h_now_1, .ref h_now_2, .ref h_now_3, .int (mn now), .int (ma now), .int (yr now), .int (dw now)], ai G h_now_0 6 (kd now), ai G h_now_1 18 (pl now), ai G h_now_2 6 (lf now), ai G h_now_3 6 (se now)]) [0, 7, 8, 9, 10, 11] rfl
  have hDc := hD.sub (ws' := [oc h 0 [.ref h_kinds, .ref h_now, .ref h_fault, .ref h_tape, .int taped, .int reads, .ref h_got, .ref h_failing, .ref h_past, .int undoMany, .ref h_aside, .ref h_best, .ref h_tried, .ref h_kept, .ref h_keptPast, .int keptMany, .int isKept, .ref h_sheets], oc h_now 6 [.ref h_now_0, .ref h_now_1, .ref h_now_2, .ref h_now_3, .int (mn now), .int (ma now), .int (yr now), .int (dw now)], ai G h_now_0 6 (kd now), ai G h_now_1 18 (pl now), ai G h_now_2 6 (lf now), ai G h_now_3 6 (se now)]) [0, 7, 8, 9, 10, 11] (by decide) rfl
  have hFc := va_free (wc := [oc h 0 [.ref h_kinds, .ref h_now, .ref h_fault, .ref h_tape, .int taped, .int reads, .ref h_got, .ref h_failing, .ref h_past, .int undoMany, .ref h_aside, .ref h_best, .ref h_tried, .ref h_kept, .ref h_keptPast, .int keptMany, .int isKept, .ref h_sheets], oc h_now 6 [.ref h_now_0, .ref h_now_1, .ref h_now_2, .ref h_now_3, .int (mn now), .int (ma now), .int (yr now), .int (dw now)], ai G h_now_0 6 (kd now), ai G h_now_1 18 (pl now), ai G h_now_2 6 (lf now), ai G h_now_3 6 (se now)]) hD hS hA [0, 7, 8, 9, 10, 11] rfl
  refine va_calli (va_runV (As := [.int p1]) (rest := []) ⟨hx, hb, hml, hown, hts⟩ (mt_X0_isMan l G h h_kinds h_now h_fault h_tape h_got h_failing h_past h_aside h_best h_tried h_kept h_keptPast h_sheets h_now_0 h_now_1 h_now_2 h_now_3 s.heap.size taped reads undoMany keptMany isKept now p1 _ hw) (cwV 1 hts (lw_V q336 q338 qs2 q54 q339) rfl rfl rfl (by decide +kernel) ⟨Nat.le_of_ble_eq_true rfl, Nat.le_of_ble_eq_true rfl⟩) ⟨fun a U g mk q => by obtain ⟨q0, q1, qP, qK, qD⟩ := q; exact ⟨q0, q1, qP, qK.call, qD⟩, va_recv hK.1 hP (ci := 0) (q0 := 0) rfl rfl, fun U hU hW => ⟨rfl, by rw [hU], by rw [hU]; exact hPc, hK.warm hW, hDc.weaken (fun _ _ _ _ => trivial)⟩⟩ rfl rfl hl.1 rfl (lv_room (Nat.le_of_ble_eq_true rfl)) dX0_film_2 ⟨Nat.le_of_ble_eq_true rfl, Nat.le_of_ble_eq_true rfl⟩) hS (fun q _ h => hFc q h) hFc (fun r_1 _ t H1 locs ht hvm hw hB hz1 hk1 hS => ?_)
  obtain ⟨hP1, hD1⟩ := hB
  rw [ht] at hP1
  obtain ⟨hP, hD⟩ := va_join (wr := [ar G h_kinds 5 5 [h_kinds_0, h_kinds_1, h_kinds_2, h_kinds_3, h_kinds_4], oc h_kinds_0 1 [], oc h_kinds_1 2 [], oc h_kinds_2 3 [], oc h_kinds_3 4 [], oc h_kinds_4 5 [], ai G h_failing 6 failing, oc h_aside 6 [.ref h_aside_0, .ref h_aside_1, .ref h_aside_2, .ref h_aside_3, .int (mn aside), .int (ma aside), .int (yr aside), .int (dw aside)], ai G h_aside_0 6 (kd aside), ai G h_aside_1 18 (pl aside), ai G h_aside_2 6 (lf aside), ai G h_aside_3 6 (se aside), arf G h_sheets 7 4 shf, oc h_sheets_x 8 [.ref h_sheets_x_r], ay G h_sheets_x_r rn rw]) (w1 := [oc h 0 [.ref h_kinds, .ref h_now, .ref h_fault, .ref h_tape, .int taped, .int reads, .ref h_got, .ref h_failing, .ref h_past, .int undoMany, .ref h_aside, .ref h_best, .ref h_tried, .ref h_kept, .ref h_keptPast, .int keptMany, .int isKept, .ref h_sheets], oc h_now 6 [.ref h_now_0, .ref h_now_1, .ref h_now_2, .ref h_now_3, .int (mn now), .int (ma now), .int (yr now), .int (dw now)], ai G h_now_0 6 (kd now), ai G h_now_1 18 (pl now), ai G h_now_2 6 (lf now), ai G h_now_3 6 (se now)]) hP hD [0, 7, 8, 9, 10, 11] [1, 2, 3, 4, 5, 6, 12, 13, 14, 15, 16, 17, 18, 19, 20] rfl rfl (by decide) (by decide) hk1 hFc hP1 hD1
  clear hPc hDc hFc hP1 hD1 hz1 hk1 hvm
  generalize H1 = H at hP hS ⊢
  have hP : va_P G.1 gCl [ar G h_kinds 5 5 [h_kinds_0, h_kinds_1, h_kinds_2, h_kinds_3, h_kinds_4], oc h_kinds_0 1 [], oc h_kinds_1 2 [], oc h_kinds_2 3 [], oc h_kinds_3 4 [], oc h_kinds_4 5 [], ai G h_failing 6 failing, oc h_aside 6 [.ref h_aside_0, .ref h_aside_1, .ref h_aside_2, .ref h_aside_3, .int (mn aside), .int (ma aside), .int (yr aside), .int (dw aside)], ai G h_aside_0 6 (kd aside), ai G h_aside_1 18 (pl aside), ai G h_aside_2 6 (lf aside), ai G h_aside_3 6 (se aside), arf G h_sheets 7 4 shf, oc h_sheets_x 8 [.ref h_sheets_x_r], ay G h_sheets_x_r rn rw, oc h 0 [.ref h_kinds, .ref h_now, .ref h_fault, .ref h_tape, .int taped, .int reads, .ref h_got, .ref h_failing, .ref h_past, .int undoMany, .ref h_aside, .ref h_best, .ref h_tried, .ref h_kept, .ref h_keptPast, .int keptMany, .int isKept, .ref h_sheets], oc h_now 6 [.ref h_now_0, .ref h_now_1, .ref h_now_2, .ref h_now_3, .int (mn now), .int (ma now), .int (yr now), .int (dw now)], ai G h_now_0 6 (kd now), ai G h_now_1 18 (pl now), ai G h_now_2 6 (lf now), ai G h_now_3 6 (se now)] H := hP
  have hD : va_D A [ar G h_kinds 5 5 [h_kinds_0, h_kinds_1, h_kinds_2, h_kinds_3, h_kinds_4], oc h_kinds_0 1 [], oc h_kinds_1 2 [], oc h_kinds_2 3 [], oc h_kinds_3 4 [], oc h_kinds_4 5 [], ai G h_failing 6 failing, oc h_aside 6 [.ref h_aside_0, .ref h_aside_1, .ref h_aside_2, .ref h_aside_3, .int (mn aside), .int (ma aside), .int (yr aside), .int (dw aside)], ai G h_aside_0 6 (kd aside), ai G h_aside_1 18 (pl aside), ai G h_aside_2 6 (lf aside), ai G h_aside_3 6 (se aside), arf G h_sheets 7 4 shf, oc h_sheets_x 8 [.ref h_sheets_x_r], ay G h_sheets_x_r rn rw, oc h 0 [.ref h_kinds, .ref h_now, .ref h_fault, .ref h_tape, .int taped, .int reads, .ref h_got, .ref h_failing, .ref h_past, .int undoMany, .ref h_aside, .ref h_best, .ref h_tried, .ref h_kept, .ref h_keptPast, .int keptMany, .int isKept, .ref h_sheets], oc h_now 6 [.ref h_now_0, .ref h_now_1, .ref h_now_2, .ref h_now_3, .int (mn now), .int (ma now), .int (yr now), .int (dw now)], ai G h_now_0 6 (kd now), ai G h_now_1 18 (pl now), ai G h_now_2 6 (lf now), ai G h_now_3 6 (se now)] := hD
  refine lv_if_eq (tgt := 29) hx hb dX0_film_5 (by decide) (fun c_2 => ?_) (fun c_2 => ?_)
  · replace hw := hw.1 c_2
    refine lv_iconst (v := (-1 : Int32)) hx hb dX0_film_29 (by decide) ?_
    have hP9 := hP.sub (ws' := [oc h 0 [.ref h_kinds, .ref h_now, .ref h_fault, .ref h_tape, .int taped, .int reads, .ref h_got, .ref h_failing, .ref h_past, .int undoMany, .ref h_aside, .ref h_best, .ref h_tried, .ref h_kept, .ref h_keptPast, .int keptMany, .int isKept, .ref h_sheets], ar G h_kinds 5 5 [h_kinds_0, h_kinds_1, h_kinds_2, h_kinds_3, h_kinds_4], oc h_kinds_0 1 [], oc h_kinds_1 2 [], oc h_kinds_2 3 [], oc h_kinds_3 4 [], oc h_kinds_4 5 [], oc h_now 6 [.ref h_now_0, .ref h_now_1, .ref h_now_2, .ref h_now_3, .int (mn now), .int (ma now), .int (yr now), .int (dw now)], ai G h_now_0 6 (kd now), ai G h_now_1 18 (pl now), ai G h_now_2 6 (lf now), ai G h_now_3 6 (se now), ai G h_failing 6 failing, oc h_aside 6 [.ref h_aside_0, .ref h_aside_1, .ref h_aside_2, .ref h_aside_3, .int (mn aside), .int (ma aside), .int (yr aside), .int (dw aside)], ai G h_aside_0 6 (kd aside), ai G h_aside_1 18 (pl aside), ai G h_aside_2 6 (lf aside), ai G h_aside_3 6 (se aside), arf G h_sheets 7 4 shf, oc h_sheets_x 8 [.ref h_sheets_x_r], ay G h_sheets_x_r rn rw]) [15, 0, 1, 2, 3, 4, 5, 16, 17, 18, 19, 20, 6, 7, 8, 9, 10, 11, 12, 13, 14] rfl
    have hD9 := hD.sub (ws' := [oc h 0 [.ref h_kinds, .ref h_now, .ref h_fault, .ref h_tape, .int taped, .int reads, .ref h_got, .ref h_failing, .ref h_past, .int undoMany, .ref h_aside, .ref h_best, .ref h_tried, .ref h_kept, .ref h_keptPast, .int keptMany, .int isKept, .ref h_sheets], ar G h_kinds 5 5 [h_kinds_0, h_kinds_1, h_kinds_2, h_kinds_3, h_kinds_4], oc h_kinds_0 1 [], oc h_kinds_1 2 [], oc h_kinds_2 3 [], oc h_kinds_3 4 [], oc h_kinds_4 5 [], oc h_now 6 [.ref h_now_0, .ref h_now_1, .ref h_now_2, .ref h_now_3, .int (mn now), .int (ma now), .int (yr now), .int (dw now)], ai G h_now_0 6 (kd now), ai G h_now_1 18 (pl now), ai G h_now_2 6 (lf now), ai G h_now_3 6 (se now), ai G h_failing 6 failing, oc h_aside 6 [.ref h_aside_0, .ref h_aside_1, .ref h_aside_2, .ref h_aside_3, .int (mn aside), .int (ma aside), .int (yr aside), .int (dw aside)], ai G h_aside_0 6 (kd aside), ai G h_aside_1 18 (pl aside), ai G h_aside_2 6 (lf aside), ai G h_aside_3 6 (se aside), arf G h_sheets 7 4 shf, oc h_sheets_x 8 [.ref h_sheets_x_r], ay G h_sheets_x_r rn rw]) [15, 0, 1, 2, 3, 4, 5, 16, 17, 18, 19, 20, 6, 7, 8, 9, 10, 11, 12, 13, 14] (by decide) rfl
    exact W.iret (v := (-1 : Int32)) hx hb hr (fun t ht hW => ⟨⟨(-1 : Int32), (now, failing, aside, rw), rfl, hw, by rw [ht]; exact hP9, hD9⟩, hS.F ht⟩) hS.2.2 dX0_film_30
  · replace hw := hw.2 c_2
    refine lv_iload_n hx hb dX0_film_8 rfl (lv_at hl 2 rfl) ?_
    refine lv_i2l hx hb dX0_film_9 rfl ?_
    refine lv_lconst (v := (1 : Int64)) hx hb dX0_film_10 (by decide) ?_
    refine lv_ldc2 (v := (24 : Int64)) hx hb hown (hts _ q685) dX0_film_11 ?_
    have hPc := hP.sub (ws' := []) [] rfl
    have hDc := hD.sub (ws' := []) [] (by decide) rfl
    have hFc := va_free (wc := []) hD hS hA [] rfl
    refine va_calli (va_runS (As := [.long (Int32.toInt64 p2), .long (1 : Int64), .long (24 : Int64)]) (rest := []) ⟨hx, hb, hml, hown, hts⟩ (mt_X0_isIn l G  H.size  (Int32.toInt64 p2) (1 : Int64) (24 : Int64) _ hw) (va_cwS 3 hts (lw_S q316 q317 q54 q318) rfl rfl rfl (by decide +kernel) ⟨Nat.le_of_ble_eq_true rfl, Nat.le_of_ble_eq_true rfl⟩) ⟨fun a U g mk q => by obtain ⟨q0, q1, qP, qK, qD⟩ := q; exact ⟨q0, q1, qP, qK.call, qD⟩, fun U hU hW => ⟨rfl, by rw [hU], by rw [hU]; exact hPc, hK.warm hW, hDc.weaken (fun _ _ _ _ => trivial)⟩⟩ rfl rfl hl.1 rfl (lv_room (Nat.le_of_ble_eq_true rfl)) dX0_film_14 ⟨Nat.le_of_ble_eq_true rfl, Nat.le_of_ble_eq_true rfl⟩) hS (fun q _ h => hFc q h) hFc (fun r_3 _ t H1 locs ht hvm hw hB hz1 hk1 hS => ?_)
    obtain ⟨hP1, hD1⟩ := hB
    rw [ht] at hP1
    obtain ⟨hP, hD⟩ := va_join (wr := [ar G h_kinds 5 5 [h_kinds_0, h_kinds_1, h_kinds_2, h_kinds_3, h_kinds_4], oc h_kinds_0 1 [], oc h_kinds_1 2 [], oc h_kinds_2 3 [], oc h_kinds_3 4 [], oc h_kinds_4 5 [], ai G h_failing 6 failing, oc h_aside 6 [.ref h_aside_0, .ref h_aside_1, .ref h_aside_2, .ref h_aside_3, .int (mn aside), .int (ma aside), .int (yr aside), .int (dw aside)], ai G h_aside_0 6 (kd aside), ai G h_aside_1 18 (pl aside), ai G h_aside_2 6 (lf aside), ai G h_aside_3 6 (se aside), arf G h_sheets 7 4 shf, oc h_sheets_x 8 [.ref h_sheets_x_r], ay G h_sheets_x_r rn rw, oc h 0 [.ref h_kinds, .ref h_now, .ref h_fault, .ref h_tape, .int taped, .int reads, .ref h_got, .ref h_failing, .ref h_past, .int undoMany, .ref h_aside, .ref h_best, .ref h_tried, .ref h_kept, .ref h_keptPast, .int keptMany, .int isKept, .ref h_sheets], oc h_now 6 [.ref h_now_0, .ref h_now_1, .ref h_now_2, .ref h_now_3, .int (mn now), .int (ma now), .int (yr now), .int (dw now)], ai G h_now_0 6 (kd now), ai G h_now_1 18 (pl now), ai G h_now_2 6 (lf now), ai G h_now_3 6 (se now)]) (w1 := []) hP hD [] [0, 1, 2, 3, 4, 5, 6, 7, 8, 9, 10, 11, 12, 13, 14, 15, 16, 17, 18, 19, 20] rfl rfl (by decide) (by decide) hk1 hFc hP1 hD1
    clear hPc hDc hFc hP1 hD1 hz1 hk1 hvm
    generalize H1 = H at hP hS ⊢
    have hP : va_P G.1 gCl [ar G h_kinds 5 5 [h_kinds_0, h_kinds_1, h_kinds_2, h_kinds_3, h_kinds_4], oc h_kinds_0 1 [], oc h_kinds_1 2 [], oc h_kinds_2 3 [], oc h_kinds_3 4 [], oc h_kinds_4 5 [], ai G h_failing 6 failing, oc h_aside 6 [.ref h_aside_0, .ref h_aside_1, .ref h_aside_2, .ref h_aside_3, .int (mn aside), .int (ma aside), .int (yr aside), .int (dw aside)], ai G h_aside_0 6 (kd aside), ai G h_aside_1 18 (pl aside), ai G h_aside_2 6 (lf aside), ai G h_aside_3 6 (se aside), arf G h_sheets 7 4 shf, oc h_sheets_x 8 [.ref h_sheets_x_r], ay G h_sheets_x_r rn rw, oc h 0 [.ref h_kinds, .ref h_now, .ref h_fault, .ref h_tape, .int taped, .int reads, .ref h_got, .ref h_failing, .ref h_past, .int undoMany, .ref h_aside, .ref h_best, .ref h_tried, .ref h_kept, .ref h_keptPast, .int keptMany, .int isKept, .ref h_sheets], oc h_now 6 [.ref h_now_0, .ref h_now_1, .ref h_now_2, .ref h_now_3, .int (mn now), .int (ma now), .int (yr now), .int (dw now)], ai G h_now_0 6 (kd now), ai G h_now_1 18 (pl now), ai G h_now_2 6 (lf now), ai G h_now_3 6 (se now)] H := hP
    have hD : va_D A [ar G h_kinds 5 5 [h_kinds_0, h_kinds_1, h_kinds_2, h_kinds_3, h_kinds_4], oc h_kinds_0 1 [], oc h_kinds_1 2 [], oc h_kinds_2 3 [], oc h_kinds_3 4 [], oc h_kinds_4 5 [], ai G h_failing 6 failing, oc h_aside 6 [.ref h_aside_0, .ref h_aside_1, .ref h_aside_2, .ref h_aside_3, .int (mn aside), .int (ma aside), .int (yr aside), .int (dw aside)], ai G h_aside_0 6 (kd aside), ai G h_aside_1 18 (pl aside), ai G h_aside_2 6 (lf aside), ai G h_aside_3 6 (se aside), arf G h_sheets 7 4 shf, oc h_sheets_x 8 [.ref h_sheets_x_r], ay G h_sheets_x_r rn rw, oc h 0 [.ref h_kinds, .ref h_now, .ref h_fault, .ref h_tape, .int taped, .int reads, .ref h_got, .ref h_failing, .ref h_past, .int undoMany, .ref h_aside, .ref h_best, .ref h_tried, .ref h_kept, .ref h_keptPast, .int keptMany, .int isKept, .ref h_sheets], oc h_now 6 [.ref h_now_0, .ref h_now_1, .ref h_now_2, .ref h_now_3, .int (mn now), .int (ma now), .int (yr now), .int (dw now)], ai G h_now_0 6 (kd now), ai G h_now_1 18 (pl now), ai G h_now_2 6 (lf now), ai G h_now_3 6 (se now)] := hD
    refine lv_if_eq (tgt := 29) hx hb dX0_film_17 (by decide) (fun c_4 => ?_) (fun c_4 => ?_)
    · replace hw := hw.1 c_4
      refine lv_iconst (v := (-1 : Int32)) hx hb dX0_film_29 (by decide) ?_
      have hP9 := hP.sub (ws' := [oc h 0 [.ref h_kinds, .ref h_now, .ref h_fault, .ref h_tape, .int taped, .int reads, .ref h_got, .ref h_failing, .ref h_past, .int undoMany, .ref h_aside, .ref h_best, .ref h_tried, .ref h_kept, .ref h_keptPast, .int keptMany, .int isKept, .ref h_sheets], ar G h_kinds 5 5 [h_kinds_0, h_kinds_1, h_kinds_2, h_kinds_3, h_kinds_4], oc h_kinds_0 1 [], oc h_kinds_1 2 [], oc h_kinds_2 3 [], oc h_kinds_3 4 [], oc h_kinds_4 5 [], oc h_now 6 [.ref h_now_0, .ref h_now_1, .ref h_now_2, .ref h_now_3, .int (mn now), .int (ma now), .int (yr now), .int (dw now)], ai G h_now_0 6 (kd now), ai G h_now_1 18 (pl now), ai G h_now_2 6 (lf now), ai G h_now_3 6 (se now), ai G h_failing 6 failing, oc h_aside 6 [.ref h_aside_0, .ref h_aside_1, .ref h_aside_2, .ref h_aside_3, .int (mn aside), .int (ma aside), .int (yr aside), .int (dw aside)], ai G h_aside_0 6 (kd aside), ai G h_aside_1 18 (pl aside), ai G h_aside_2 6 (lf aside), ai G h_aside_3 6 (se aside), arf G h_sheets 7 4 shf, oc h_sheets_x 8 [.ref h_sheets_x_r], ay G h_sheets_x_r rn rw]) [15, 0, 1, 2, 3, 4, 5, 16, 17, 18, 19, 20, 6, 7, 8, 9, 10, 11, 12, 13, 14] rfl
      have hD9 := hD.sub (ws' := [oc h 0 [.ref h_kinds, .ref h_now, .ref h_fault, .ref h_tape, .int taped, .int reads, .ref h_got, .ref h_failing, .ref h_past, .int undoMany, .ref h_aside, .ref h_best, .ref h_tried, .ref h_kept, .ref h_keptPast, .int keptMany, .int isKept, .ref h_sheets], ar G h_kinds 5 5 [h_kinds_0, h_kinds_1, h_kinds_2, h_kinds_3, h_kinds_4], oc h_kinds_0 1 [], oc h_kinds_1 2 [], oc h_kinds_2 3 [], oc h_kinds_3 4 [], oc h_kinds_4 5 [], oc h_now 6 [.ref h_now_0, .ref h_now_1, .ref h_now_2, .ref h_now_3, .int (mn now), .int (ma now), .int (yr now), .int (dw now)], ai G h_now_0 6 (kd now), ai G h_now_1 18 (pl now), ai G h_now_2 6 (lf now), ai G h_now_3 6 (se now), ai G h_failing 6 failing, oc h_aside 6 [.ref h_aside_0, .ref h_aside_1, .ref h_aside_2, .ref h_aside_3, .int (mn aside), .int (ma aside), .int (yr aside), .int (dw aside)], ai G h_aside_0 6 (kd aside), ai G h_aside_1 18 (pl aside), ai G h_aside_2 6 (lf aside), ai G h_aside_3 6 (se aside), arf G h_sheets 7 4 shf, oc h_sheets_x 8 [.ref h_sheets_x_r], ay G h_sheets_x_r rn rw]) [15, 0, 1, 2, 3, 4, 5, 16, 17, 18, 19, 20, 6, 7, 8, 9, 10, 11, 12, 13, 14] (by decide) rfl
      exact W.iret (v := (-1 : Int32)) hx hb hr (fun t ht hW => ⟨⟨(-1 : Int32), (now, failing, aside, rw), rfl, hw, by rw [ht]; exact hP9, hD9⟩, hS.F ht⟩) hS.2.2 dX0_film_30
    · replace hw := hw.2 c_4
      refine lv_iload_n hx hb dX0_film_20 rfl (lv_at hl 3 rfl) ?_
      refine lv_iload hx hb dX0_film_21 (lv_at hl 4 rfl) ?_
      have hPc := hP.sub (ws' := []) [] rfl
      have hDc := hD.sub (ws' := []) [] (by decide) rfl
      have hFc := va_free (wc := []) hD hS hA [] rfl
      refine va_calli (va_runS (As := [.int p3, .int p4]) (rest := []) ⟨hx, hb, hml, hown, hts⟩ (mt_X0_isSheet l G  H.size  p3 p4 _ hw) (va_cwS 2 hts (lw_S q648 q649 q54 q650) rfl rfl rfl (by decide +kernel) ⟨Nat.le_of_ble_eq_true rfl, Nat.le_of_ble_eq_true rfl⟩) ⟨fun a U g mk q => by obtain ⟨q0, q1, qP, qK, qD⟩ := q; exact ⟨q0, q1, qP, qK.call, qD⟩, fun U hU hW => ⟨rfl, by rw [hU], by rw [hU]; exact hPc, hK.warm hW, hDc.weaken (fun _ _ _ _ => trivial)⟩⟩ rfl rfl hl.1 rfl (lv_room (Nat.le_of_ble_eq_true rfl)) dX0_film_23 ⟨Nat.le_of_ble_eq_true rfl, Nat.le_of_ble_eq_true rfl⟩) hS (fun q _ h => hFc q h) hFc (fun r_5 _ t H1 locs ht hvm hw hB hz1 hk1 hS => ?_)
      obtain ⟨hP1, hD1⟩ := hB
      rw [ht] at hP1
      obtain ⟨hP, hD⟩ := va_join (wr := [ar G h_kinds 5 5 [h_kinds_0, h_kinds_1, h_kinds_2, h_kinds_3, h_kinds_4], oc h_kinds_0 1 [], oc h_kinds_1 2 [], oc h_kinds_2 3 [], oc h_kinds_3 4 [], oc h_kinds_4 5 [], ai G h_failing 6 failing, oc h_aside 6 [.ref h_aside_0, .ref h_aside_1, .ref h_aside_2, .ref h_aside_3, .int (mn aside), .int (ma aside), .int (yr aside), .int (dw aside)], ai G h_aside_0 6 (kd aside), ai G h_aside_1 18 (pl aside), ai G h_aside_2 6 (lf aside), ai G h_aside_3 6 (se aside), arf G h_sheets 7 4 shf, oc h_sheets_x 8 [.ref h_sheets_x_r], ay G h_sheets_x_r rn rw, oc h 0 [.ref h_kinds, .ref h_now, .ref h_fault, .ref h_tape, .int taped, .int reads, .ref h_got, .ref h_failing, .ref h_past, .int undoMany, .ref h_aside, .ref h_best, .ref h_tried, .ref h_kept, .ref h_keptPast, .int keptMany, .int isKept, .ref h_sheets], oc h_now 6 [.ref h_now_0, .ref h_now_1, .ref h_now_2, .ref h_now_3, .int (mn now), .int (ma now), .int (yr now), .int (dw now)], ai G h_now_0 6 (kd now), ai G h_now_1 18 (pl now), ai G h_now_2 6 (lf now), ai G h_now_3 6 (se now)]) (w1 := []) hP hD [] [0, 1, 2, 3, 4, 5, 6, 7, 8, 9, 10, 11, 12, 13, 14, 15, 16, 17, 18, 19, 20] rfl rfl (by decide) (by decide) hk1 hFc hP1 hD1
      clear hPc hDc hFc hP1 hD1 hz1 hk1 hvm
      generalize H1 = H at hP hS ⊢
      have hP : va_P G.1 gCl [ar G h_kinds 5 5 [h_kinds_0, h_kinds_1, h_kinds_2, h_kinds_3, h_kinds_4], oc h_kinds_0 1 [], oc h_kinds_1 2 [], oc h_kinds_2 3 [], oc h_kinds_3 4 [], oc h_kinds_4 5 [], ai G h_failing 6 failing, oc h_aside 6 [.ref h_aside_0, .ref h_aside_1, .ref h_aside_2, .ref h_aside_3, .int (mn aside), .int (ma aside), .int (yr aside), .int (dw aside)], ai G h_aside_0 6 (kd aside), ai G h_aside_1 18 (pl aside), ai G h_aside_2 6 (lf aside), ai G h_aside_3 6 (se aside), arf G h_sheets 7 4 shf, oc h_sheets_x 8 [.ref h_sheets_x_r], ay G h_sheets_x_r rn rw, oc h 0 [.ref h_kinds, .ref h_now, .ref h_fault, .ref h_tape, .int taped, .int reads, .ref h_got, .ref h_failing, .ref h_past, .int undoMany, .ref h_aside, .ref h_best, .ref h_tried, .ref h_kept, .ref h_keptPast, .int keptMany, .int isKept, .ref h_sheets], oc h_now 6 [.ref h_now_0, .ref h_now_1, .ref h_now_2, .ref h_now_3, .int (mn now), .int (ma now), .int (yr now), .int (dw now)], ai G h_now_0 6 (kd now), ai G h_now_1 18 (pl now), ai G h_now_2 6 (lf now), ai G h_now_3 6 (se now)] H := hP
      have hD : va_D A [ar G h_kinds 5 5 [h_kinds_0, h_kinds_1, h_kinds_2, h_kinds_3, h_kinds_4], oc h_kinds_0 1 [], oc h_kinds_1 2 [], oc h_kinds_2 3 [], oc h_kinds_3 4 [], oc h_kinds_4 5 [], ai G h_failing 6 failing, oc h_aside 6 [.ref h_aside_0, .ref h_aside_1, .ref h_aside_2, .ref h_aside_3, .int (mn aside), .int (ma aside), .int (yr aside), .int (dw aside)], ai G h_aside_0 6 (kd aside), ai G h_aside_1 18 (pl aside), ai G h_aside_2 6 (lf aside), ai G h_aside_3 6 (se aside), arf G h_sheets 7 4 shf, oc h_sheets_x 8 [.ref h_sheets_x_r], ay G h_sheets_x_r rn rw, oc h 0 [.ref h_kinds, .ref h_now, .ref h_fault, .ref h_tape, .int taped, .int reads, .ref h_got, .ref h_failing, .ref h_past, .int undoMany, .ref h_aside, .ref h_best, .ref h_tried, .ref h_kept, .ref h_keptPast, .int keptMany, .int isKept, .ref h_sheets], oc h_now 6 [.ref h_now_0, .ref h_now_1, .ref h_now_2, .ref h_now_3, .int (mn now), .int (ma now), .int (yr now), .int (dw now)], ai G h_now_0 6 (kd now), ai G h_now_1 18 (pl now), ai G h_now_2 6 (lf now), ai G h_now_3 6 (se now)] := hD
      refine lv_if_ne (tgt := 31) hx hb dX0_film_26 (by decide) (fun c_6 => ?_) (fun c_6 => ?_)
      · replace hw := hw.1 c_6
        refine lv_aload_n hx hb dX0_film_31 rfl (lv_at hl 0 rfl) ?_
        refine lv_iload_n hx hb dX0_film_32 rfl (lv_at hl 3 rfl) ?_
        refine lv_iload hx hb dX0_film_33 (lv_at hl 4 rfl) ?_
        refine lv_iload hx hb dX0_film_35 (lv_at hl 5 rfl) ?_
        refine lv_iload_n hx hb dX0_film_37 rfl (lv_at hl 2 rfl) ?_
        have hPc := hP.sub (ws' := [oc h 0 [.ref h_kinds, .ref h_now, .ref h_fault, .ref h_tape, .int taped, .int reads, .ref h_got, .ref h_failing, .ref h_past, .int undoMany, .ref h_aside, .ref h_best, .ref h_tried, .ref h_kept, .ref h_keptPast, .int keptMany, .int isKept, .ref h_sheets], arf G h_sheets 7 4 shf, oc h_sheets_x 8 [.ref h_sheets_x_r], ay G h_sheets_x_r rn rw]) [15, 12, 13, 14] rfl
        have hDc := hD.sub (ws' := [oc h 0 [.ref h_kinds, .ref h_now, .ref h_fault, .ref h_tape, .int taped, .int reads, .ref h_got, .ref h_failing, .ref h_past, .int undoMany, .ref h_aside, .ref h_best, .ref h_tried, .ref h_kept, .ref h_keptPast, .int keptMany, .int isKept, .ref h_sheets], arf G h_sheets 7 4 shf, oc h_sheets_x 8 [.ref h_sheets_x_r], ay G h_sheets_x_r rn rw]) [15, 12, 13, 14] (by decide) rfl
        have hFc := va_free (wc := [oc h 0 [.ref h_kinds, .ref h_now, .ref h_fault, .ref h_tape, .int taped, .int reads, .ref h_got, .ref h_failing, .ref h_past, .int undoMany, .ref h_aside, .ref h_best, .ref h_tried, .ref h_kept, .ref h_keptPast, .int keptMany, .int isKept, .ref h_sheets], arf G h_sheets 7 4 shf, oc h_sheets_x 8 [.ref h_sheets_x_r], ay G h_sheets_x_r rn rw]) hD hS hA [15, 12, 13, 14] rfl
        refine va_calli (va_runV (As := [.int p3, .int p4, .int p5, .int p2]) (rest := []) ⟨hx, hb, hml, hown, hts⟩ (mt_X0_lacks_B l G h h_kinds h_now h_fault h_tape h_got h_failing h_past h_aside h_best h_tried h_kept h_keptPast h_sheets h_sheets_x h_sheets_x_r shf H.size taped reads undoMany keptMany isKept rn rw p3 p4 p5 p2 hsh _ hw) (cwV 4 hts (lw_V q653 q655 qs23 q54 q656) rfl rfl rfl (by decide +kernel) ⟨Nat.le_of_ble_eq_true rfl, Nat.le_of_ble_eq_true rfl⟩) ⟨fun a U g mk q => by obtain ⟨q0, q1, qP, qK, qD⟩ := q; exact ⟨q0, q1, qP, qK.call, qD⟩, va_recv hK.1 hP (ci := 0) (q0 := 15) rfl rfl, fun U hU hW => ⟨rfl, by rw [hU], by rw [hU]; exact hPc, hK.warm hW, hDc.weaken (fun _ _ _ _ => trivial)⟩⟩ rfl rfl hl.1 rfl (lv_room (Nat.le_of_ble_eq_true rfl)) dX0_film_38 ⟨Nat.le_of_ble_eq_true rfl, Nat.le_of_ble_eq_true rfl⟩) hS (fun q _ h => hFc q h) hFc (fun r_7 _ t H1 locs ht hvm hw hB hz1 hk1 hS => ?_)
        obtain ⟨hP1, hD1⟩ := hB
        rw [ht] at hP1
        obtain ⟨hP, hD⟩ := va_join (wr := [ar G h_kinds 5 5 [h_kinds_0, h_kinds_1, h_kinds_2, h_kinds_3, h_kinds_4], oc h_kinds_0 1 [], oc h_kinds_1 2 [], oc h_kinds_2 3 [], oc h_kinds_3 4 [], oc h_kinds_4 5 [], ai G h_failing 6 failing, oc h_aside 6 [.ref h_aside_0, .ref h_aside_1, .ref h_aside_2, .ref h_aside_3, .int (mn aside), .int (ma aside), .int (yr aside), .int (dw aside)], ai G h_aside_0 6 (kd aside), ai G h_aside_1 18 (pl aside), ai G h_aside_2 6 (lf aside), ai G h_aside_3 6 (se aside), oc h_now 6 [.ref h_now_0, .ref h_now_1, .ref h_now_2, .ref h_now_3, .int (mn now), .int (ma now), .int (yr now), .int (dw now)], ai G h_now_0 6 (kd now), ai G h_now_1 18 (pl now), ai G h_now_2 6 (lf now), ai G h_now_3 6 (se now)]) (w1 := [oc h 0 [.ref h_kinds, .ref h_now, .ref h_fault, .ref h_tape, .int taped, .int reads, .ref h_got, .ref h_failing, .ref h_past, .int undoMany, .ref h_aside, .ref h_best, .ref h_tried, .ref h_kept, .ref h_keptPast, .int keptMany, .int isKept, .ref h_sheets], arf G h_sheets 7 4 shf, oc h_sheets_x 8 [.ref h_sheets_x_r], ay G h_sheets_x_r rn rw]) hP hD [15, 12, 13, 14] [0, 1, 2, 3, 4, 5, 6, 7, 8, 9, 10, 11, 16, 17, 18, 19, 20] rfl rfl (by decide) (by decide) hk1 hFc hP1 hD1
        clear hPc hDc hFc hP1 hD1 hz1 hk1 hvm
        generalize H1 = H at hP hS ⊢
        have hP : va_P G.1 gCl [ar G h_kinds 5 5 [h_kinds_0, h_kinds_1, h_kinds_2, h_kinds_3, h_kinds_4], oc h_kinds_0 1 [], oc h_kinds_1 2 [], oc h_kinds_2 3 [], oc h_kinds_3 4 [], oc h_kinds_4 5 [], ai G h_failing 6 failing, oc h_aside 6 [.ref h_aside_0, .ref h_aside_1, .ref h_aside_2, .ref h_aside_3, .int (mn aside), .int (ma aside), .int (yr aside), .int (dw aside)], ai G h_aside_0 6 (kd aside), ai G h_aside_1 18 (pl aside), ai G h_aside_2 6 (lf aside), ai G h_aside_3 6 (se aside), oc h_now 6 [.ref h_now_0, .ref h_now_1, .ref h_now_2, .ref h_now_3, .int (mn now), .int (ma now), .int (yr now), .int (dw now)], ai G h_now_0 6 (kd now), ai G h_now_1 18 (pl now), ai G h_now_2 6 (lf now), ai G h_now_3 6 (se now), oc h 0 [.ref h_kinds, .ref h_now, .ref h_fault, .ref h_tape, .int taped, .int reads, .ref h_got, .ref h_failing, .ref h_past, .int undoMany, .ref h_aside, .ref h_best, .ref h_tried, .ref h_kept, .ref h_keptPast, .int keptMany, .int isKept, .ref h_sheets], arf G h_sheets 7 4 shf, oc h_sheets_x 8 [.ref h_sheets_x_r], ay G h_sheets_x_r rn rw] H := hP
        have hD : va_D A [ar G h_kinds 5 5 [h_kinds_0, h_kinds_1, h_kinds_2, h_kinds_3, h_kinds_4], oc h_kinds_0 1 [], oc h_kinds_1 2 [], oc h_kinds_2 3 [], oc h_kinds_3 4 [], oc h_kinds_4 5 [], ai G h_failing 6 failing, oc h_aside 6 [.ref h_aside_0, .ref h_aside_1, .ref h_aside_2, .ref h_aside_3, .int (mn aside), .int (ma aside), .int (yr aside), .int (dw aside)], ai G h_aside_0 6 (kd aside), ai G h_aside_1 18 (pl aside), ai G h_aside_2 6 (lf aside), ai G h_aside_3 6 (se aside), oc h_now 6 [.ref h_now_0, .ref h_now_1, .ref h_now_2, .ref h_now_3, .int (mn now), .int (ma now), .int (yr now), .int (dw now)], ai G h_now_0 6 (kd now), ai G h_now_1 18 (pl now), ai G h_now_2 6 (lf now), ai G h_now_3 6 (se now), oc h 0 [.ref h_kinds, .ref h_now, .ref h_fault, .ref h_tape, .int taped, .int reads, .ref h_got, .ref h_failing, .ref h_past, .int undoMany, .ref h_aside, .ref h_best, .ref h_tried, .ref h_kept, .ref h_keptPast, .int keptMany, .int isKept, .ref h_sheets], arf G h_sheets 7 4 shf, oc h_sheets_x 8 [.ref h_sheets_x_r], ay G h_sheets_x_r rn rw] := hD
        refine lv_istore (lv' := [(6, .int r_7), (0, .ref h), (1, .int p1), (2, .int p2), (3, .int p3), (4, .int p4), (5, .int p5)]) hx hb dX0_film_41 hl (by decide) rfl (fun ls hl => ?_)
        refine lv_iload hx hb dX0_film_43 (lv_at hl 0 rfl) ?_
        refine lv_if_ge (tgt := 51) hx hb dX0_film_45 (by decide) (fun c_8 => ?_) (fun c_8 => ?_)
        · replace hw := hw.1 c_8
          refine lv_aload_n hx hb dX0_film_51 rfl (lv_at hl 1 rfl) ?_
          refine va_get (D := G.1) (ci := 0) (v := .ref h_aside) (C := RX0) (T := TX0) (N := 18) hx hb hts in_X0 hown hK.1 hP 17 rfl rfl 10 (by decide) (hts _ q266) (fun _ h9 => h9) rfl dX0_film_52 ?_
          refine lv_aload_n hx hb dX0_film_55 rfl (lv_at hl 1 rfl) ?_
          refine va_get (D := G.1) (ci := 0) (v := .ref h_now) (C := RX0) (T := TX0) (N := 18) hx hb hts in_X0 hown hK.1 hP 17 rfl rfl 1 (by decide) (hts _ q257) (fun _ h9 => h9) rfl dX0_film_56 ?_
          have hPc := hP.sub (ws' := [oc h_aside 6 [.ref h_aside_0, .ref h_aside_1, .ref h_aside_2, .ref h_aside_3, .int (mn aside), .int (ma aside), .int (yr aside), .int (dw aside)], ai G h_aside_0 6 (kd aside), ai G h_aside_1 18 (pl aside), ai G h_aside_2 6 (lf aside), ai G h_aside_3 6 (se aside), oc h_now 6 [.ref h_now_0, .ref h_now_1, .ref h_now_2, .ref h_now_3, .int (mn now), .int (ma now), .int (yr now), .int (dw now)], ai G h_now_0 6 (kd now), ai G h_now_1 18 (pl now), ai G h_now_2 6 (lf now), ai G h_now_3 6 (se now)]) [7, 8, 9, 10, 11, 12, 13, 14, 15, 16] rfl
          have hDc := hD.sub (ws' := [oc h_aside 6 [.ref h_aside_0, .ref h_aside_1, .ref h_aside_2, .ref h_aside_3, .int (mn aside), .int (ma aside), .int (yr aside), .int (dw aside)], ai G h_aside_0 6 (kd aside), ai G h_aside_1 18 (pl aside), ai G h_aside_2 6 (lf aside), ai G h_aside_3 6 (se aside), oc h_now 6 [.ref h_now_0, .ref h_now_1, .ref h_now_2, .ref h_now_3, .int (mn now), .int (ma now), .int (yr now), .int (dw now)], ai G h_now_0 6 (kd now), ai G h_now_1 18 (pl now), ai G h_now_2 6 (lf now), ai G h_now_3 6 (se now)]) [7, 8, 9, 10, 11, 12, 13, 14, 15, 16] (by decide) rfl
          have hFc := va_free (wc := [oc h_aside 6 [.ref h_aside_0, .ref h_aside_1, .ref h_aside_2, .ref h_aside_3, .int (mn aside), .int (ma aside), .int (yr aside), .int (dw aside)], ai G h_aside_0 6 (kd aside), ai G h_aside_1 18 (pl aside), ai G h_aside_2 6 (lf aside), ai G h_aside_3 6 (se aside), oc h_now 6 [.ref h_now_0, .ref h_now_1, .ref h_now_2, .ref h_now_3, .int (mn now), .int (ma now), .int (yr now), .int (dw now)], ai G h_now_0 6 (kd now), ai G h_now_1 18 (pl now), ai G h_now_2 6 (lf now), ai G h_now_3 6 (se now)]) hD hS hA [7, 8, 9, 10, 11, 12, 13, 14, 15, 16] rfl
          refine va_callv (va_runV (As := [.ref h_now]) (rest := []) ⟨hx, hb, hml, hown, hts⟩ (mt_X6_takeFrom l G h_aside h_aside_0 h_aside_1 h_aside_2 h_aside_3 h_now h_now_0 h_now_1 h_now_2 h_now_3 H.size aside now  _ hw) (cwV 1 hts (lw_V q434 q435 q436 q60 q437) rfl rfl rfl (by decide +kernel) ⟨Nat.le_of_ble_eq_true rfl, Nat.le_of_ble_eq_true rfl⟩) ⟨fun a U g mk q => by obtain ⟨q0, q1, qP, qK, qD⟩ := q; exact ⟨q0, q1, qP, qK.call, qD⟩, va_recv hK.1 hP (ci := 6) (q0 := 7) rfl rfl, fun U hU hW => ⟨rfl, by rw [hU], by rw [hU]; exact hPc, hK.warm hW, hDc.weaken (fun _ _ _ _ => trivial)⟩⟩ rfl rfl hl.1 rfl (lv_room (Nat.le_of_ble_eq_true rfl)) dX0_film_59 ⟨Nat.le_of_ble_eq_true rfl, Nat.le_of_ble_eq_true rfl⟩) hS (fun q _ h => hFc q h) hFc (fun u_9 t H1 locs ht hvm hw hB hz1 hk1 hS => ?_)
          obtain ⟨hP1, hD1⟩ := hB
          rw [ht] at hP1
          obtain ⟨hP, hD⟩ := va_join (wr := [ar G h_kinds 5 5 [h_kinds_0, h_kinds_1, h_kinds_2, h_kinds_3, h_kinds_4], oc h_kinds_0 1 [], oc h_kinds_1 2 [], oc h_kinds_2 3 [], oc h_kinds_3 4 [], oc h_kinds_4 5 [], ai G h_failing 6 failing, oc h 0 [.ref h_kinds, .ref h_now, .ref h_fault, .ref h_tape, .int taped, .int reads, .ref h_got, .ref h_failing, .ref h_past, .int undoMany, .ref h_aside, .ref h_best, .ref h_tried, .ref h_kept, .ref h_keptPast, .int keptMany, .int isKept, .ref h_sheets], arf G h_sheets 7 4 shf, oc h_sheets_x 8 [.ref h_sheets_x_r], ay G h_sheets_x_r rn rw]) (w1 := [oc h_aside 6 [.ref h_aside_0, .ref h_aside_1, .ref h_aside_2, .ref h_aside_3, .int (mn u_9), .int (ma u_9), .int (yr u_9), .int (dw u_9)], ai G h_aside_0 6 (kd u_9), ai G h_aside_1 18 (pl u_9), ai G h_aside_2 6 (lf u_9), ai G h_aside_3 6 (se u_9), oc h_now 6 [.ref h_now_0, .ref h_now_1, .ref h_now_2, .ref h_now_3, .int (mn now), .int (ma now), .int (yr now), .int (dw now)], ai G h_now_0 6 (kd now), ai G h_now_1 18 (pl now), ai G h_now_2 6 (lf now), ai G h_now_3 6 (se now)]) hP hD [7, 8, 9, 10, 11, 12, 13, 14, 15, 16] [0, 1, 2, 3, 4, 5, 6, 17, 18, 19, 20] rfl rfl (by decide) (by decide) hk1 hFc hP1 hD1
          clear hPc hDc hFc hP1 hD1 hz1 hk1 hvm
          generalize H1 = H at hP hS ⊢
          have hP : va_P G.1 gCl [ar G h_kinds 5 5 [h_kinds_0, h_kinds_1, h_kinds_2, h_kinds_3, h_kinds_4], oc h_kinds_0 1 [], oc h_kinds_1 2 [], oc h_kinds_2 3 [], oc h_kinds_3 4 [], oc h_kinds_4 5 [], ai G h_failing 6 failing, oc h 0 [.ref h_kinds, .ref h_now, .ref h_fault, .ref h_tape, .int taped, .int reads, .ref h_got, .ref h_failing, .ref h_past, .int undoMany, .ref h_aside, .ref h_best, .ref h_tried, .ref h_kept, .ref h_keptPast, .int keptMany, .int isKept, .ref h_sheets], arf G h_sheets 7 4 shf, oc h_sheets_x 8 [.ref h_sheets_x_r], ay G h_sheets_x_r rn rw, oc h_aside 6 [.ref h_aside_0, .ref h_aside_1, .ref h_aside_2, .ref h_aside_3, .int (mn u_9), .int (ma u_9), .int (yr u_9), .int (dw u_9)], ai G h_aside_0 6 (kd u_9), ai G h_aside_1 18 (pl u_9), ai G h_aside_2 6 (lf u_9), ai G h_aside_3 6 (se u_9), oc h_now 6 [.ref h_now_0, .ref h_now_1, .ref h_now_2, .ref h_now_3, .int (mn now), .int (ma now), .int (yr now), .int (dw now)], ai G h_now_0 6 (kd now), ai G h_now_1 18 (pl now), ai G h_now_2 6 (lf now), ai G h_now_3 6 (se now)] H := hP
          have hD : va_D A [ar G h_kinds 5 5 [h_kinds_0, h_kinds_1, h_kinds_2, h_kinds_3, h_kinds_4], oc h_kinds_0 1 [], oc h_kinds_1 2 [], oc h_kinds_2 3 [], oc h_kinds_3 4 [], oc h_kinds_4 5 [], ai G h_failing 6 failing, oc h 0 [.ref h_kinds, .ref h_now, .ref h_fault, .ref h_tape, .int taped, .int reads, .ref h_got, .ref h_failing, .ref h_past, .int undoMany, .ref h_aside, .ref h_best, .ref h_tried, .ref h_kept, .ref h_keptPast, .int keptMany, .int isKept, .ref h_sheets], arf G h_sheets 7 4 shf, oc h_sheets_x 8 [.ref h_sheets_x_r], ay G h_sheets_x_r rn rw, oc h_aside 6 [.ref h_aside_0, .ref h_aside_1, .ref h_aside_2, .ref h_aside_3, .int (mn u_9), .int (ma u_9), .int (yr u_9), .int (dw u_9)], ai G h_aside_0 6 (kd u_9), ai G h_aside_1 18 (pl u_9), ai G h_aside_2 6 (lf u_9), ai G h_aside_3 6 (se u_9), oc h_now 6 [.ref h_now_0, .ref h_now_1, .ref h_now_2, .ref h_now_3, .int (mn now), .int (ma now), .int (yr now), .int (dw now)], ai G h_now_0 6 (kd now), ai G h_now_1 18 (pl now), ai G h_now_2 6 (lf now), ai G h_now_3 6 (se now)] := hD
          refine lv_iconst (v := (0 : Int32)) hx hb dX0_film_62 (by decide) ?_
          refine lv_istore (lv' := [(7, .int (0 : Int32)), (6, .int r_7), (0, .ref h), (1, .int p1), (2, .int p2), (3, .int p3), (4, .int p4), (5, .int p5)]) hx hb dX0_film_63 hl (by decide) rfl (fun ls hl => ?_)
          obtain ⟨j_, hw⟩ := hw
          exact wk_X0_film_B_65 h h_kinds h_now h_fault h_tape h_got h_failing h_past h_aside h_best h_tried h_kept h_keptPast h_sheets h_kinds_0 h_kinds_1 h_kinds_2 h_kinds_3 h_kinds_4 h_now_0 h_now_1 h_now_2 h_now_3 h_aside_0 h_aside_1 h_aside_2 h_aside_3 h_sheets_x h_sheets_x_r shf taped reads undoMany keptMany isKept rn p1 p2 p3 p4 p5 hsh Q  C  j_ now failing u_9 rw (0 : Int32) H locs (hP.sub [7, 0, 1, 2, 3, 4, 5, 16, 17, 18, 19, 20, 6, 11, 12, 13, 14, 15, 8, 9, 10] rfl) (hD.sub [7, 0, 1, 2, 3, 4, 5, 16, 17, 18, 19, 20, 6, 11, 12, 13, 14, 15, 8, 9, 10] (by decide) rfl) hS ls (lv_sub hl [2, 3, 4, 5, 6, 7, 0] rfl) hw
        · replace hw := hw.2 c_8
          refine lv_iload hx hb dX0_film_48 (lv_at hl 0 rfl) ?_
          have hP9 := hP.sub (ws' := [oc h 0 [.ref h_kinds, .ref h_now, .ref h_fault, .ref h_tape, .int taped, .int reads, .ref h_got, .ref h_failing, .ref h_past, .int undoMany, .ref h_aside, .ref h_best, .ref h_tried, .ref h_kept, .ref h_keptPast, .int keptMany, .int isKept, .ref h_sheets], ar G h_kinds 5 5 [h_kinds_0, h_kinds_1, h_kinds_2, h_kinds_3, h_kinds_4], oc h_kinds_0 1 [], oc h_kinds_1 2 [], oc h_kinds_2 3 [], oc h_kinds_3 4 [], oc h_kinds_4 5 [], oc h_now 6 [.ref h_now_0, .ref h_now_1, .ref h_now_2, .ref h_now_3, .int (mn now), .int (ma now), .int (yr now), .int (dw now)], ai G h_now_0 6 (kd now), ai G h_now_1 18 (pl now), ai G h_now_2 6 (lf now), ai G h_now_3 6 (se now), ai G h_failing 6 failing, oc h_aside 6 [.ref h_aside_0, .ref h_aside_1, .ref h_aside_2, .ref h_aside_3, .int (mn aside), .int (ma aside), .int (yr aside), .int (dw aside)], ai G h_aside_0 6 (kd aside), ai G h_aside_1 18 (pl aside), ai G h_aside_2 6 (lf aside), ai G h_aside_3 6 (se aside), arf G h_sheets 7 4 shf, oc h_sheets_x 8 [.ref h_sheets_x_r], ay G h_sheets_x_r rn rw]) [17, 0, 1, 2, 3, 4, 5, 12, 13, 14, 15, 16, 6, 7, 8, 9, 10, 11, 18, 19, 20] rfl
          have hD9 := hD.sub (ws' := [oc h 0 [.ref h_kinds, .ref h_now, .ref h_fault, .ref h_tape, .int taped, .int reads, .ref h_got, .ref h_failing, .ref h_past, .int undoMany, .ref h_aside, .ref h_best, .ref h_tried, .ref h_kept, .ref h_keptPast, .int keptMany, .int isKept, .ref h_sheets], ar G h_kinds 5 5 [h_kinds_0, h_kinds_1, h_kinds_2, h_kinds_3, h_kinds_4], oc h_kinds_0 1 [], oc h_kinds_1 2 [], oc h_kinds_2 3 [], oc h_kinds_3 4 [], oc h_kinds_4 5 [], oc h_now 6 [.ref h_now_0, .ref h_now_1, .ref h_now_2, .ref h_now_3, .int (mn now), .int (ma now), .int (yr now), .int (dw now)], ai G h_now_0 6 (kd now), ai G h_now_1 18 (pl now), ai G h_now_2 6 (lf now), ai G h_now_3 6 (se now), ai G h_failing 6 failing, oc h_aside 6 [.ref h_aside_0, .ref h_aside_1, .ref h_aside_2, .ref h_aside_3, .int (mn aside), .int (ma aside), .int (yr aside), .int (dw aside)], ai G h_aside_0 6 (kd aside), ai G h_aside_1 18 (pl aside), ai G h_aside_2 6 (lf aside), ai G h_aside_3 6 (se aside), arf G h_sheets 7 4 shf, oc h_sheets_x 8 [.ref h_sheets_x_r], ay G h_sheets_x_r rn rw]) [17, 0, 1, 2, 3, 4, 5, 12, 13, 14, 15, 16, 6, 7, 8, 9, 10, 11, 18, 19, 20] (by decide) rfl
          exact W.iret (v := r_7) hx hb hr (fun t ht hW => ⟨⟨r_7, (now, failing, aside, rw), rfl, hw, by rw [ht]; exact hP9, hD9⟩, hS.F ht⟩) hS.2.2 dX0_film_50
      · replace hw := hw.2 c_6
        refine lv_iconst (v := (-1 : Int32)) hx hb dX0_film_29 (by decide) ?_
        have hP9 := hP.sub (ws' := [oc h 0 [.ref h_kinds, .ref h_now, .ref h_fault, .ref h_tape, .int taped, .int reads, .ref h_got, .ref h_failing, .ref h_past, .int undoMany, .ref h_aside, .ref h_best, .ref h_tried, .ref h_kept, .ref h_keptPast, .int keptMany, .int isKept, .ref h_sheets], ar G h_kinds 5 5 [h_kinds_0, h_kinds_1, h_kinds_2, h_kinds_3, h_kinds_4], oc h_kinds_0 1 [], oc h_kinds_1 2 [], oc h_kinds_2 3 [], oc h_kinds_3 4 [], oc h_kinds_4 5 [], oc h_now 6 [.ref h_now_0, .ref h_now_1, .ref h_now_2, .ref h_now_3, .int (mn now), .int (ma now), .int (yr now), .int (dw now)], ai G h_now_0 6 (kd now), ai G h_now_1 18 (pl now), ai G h_now_2 6 (lf now), ai G h_now_3 6 (se now), ai G h_failing 6 failing, oc h_aside 6 [.ref h_aside_0, .ref h_aside_1, .ref h_aside_2, .ref h_aside_3, .int (mn aside), .int (ma aside), .int (yr aside), .int (dw aside)], ai G h_aside_0 6 (kd aside), ai G h_aside_1 18 (pl aside), ai G h_aside_2 6 (lf aside), ai G h_aside_3 6 (se aside), arf G h_sheets 7 4 shf, oc h_sheets_x 8 [.ref h_sheets_x_r], ay G h_sheets_x_r rn rw]) [15, 0, 1, 2, 3, 4, 5, 16, 17, 18, 19, 20, 6, 7, 8, 9, 10, 11, 12, 13, 14] rfl
        have hD9 := hD.sub (ws' := [oc h 0 [.ref h_kinds, .ref h_now, .ref h_fault, .ref h_tape, .int taped, .int reads, .ref h_got, .ref h_failing, .ref h_past, .int undoMany, .ref h_aside, .ref h_best, .ref h_tried, .ref h_kept, .ref h_keptPast, .int keptMany, .int isKept, .ref h_sheets], ar G h_kinds 5 5 [h_kinds_0, h_kinds_1, h_kinds_2, h_kinds_3, h_kinds_4], oc h_kinds_0 1 [], oc h_kinds_1 2 [], oc h_kinds_2 3 [], oc h_kinds_3 4 [], oc h_kinds_4 5 [], oc h_now 6 [.ref h_now_0, .ref h_now_1, .ref h_now_2, .ref h_now_3, .int (mn now), .int (ma now), .int (yr now), .int (dw now)], ai G h_now_0 6 (kd now), ai G h_now_1 18 (pl now), ai G h_now_2 6 (lf now), ai G h_now_3 6 (se now), ai G h_failing 6 failing, oc h_aside 6 [.ref h_aside_0, .ref h_aside_1, .ref h_aside_2, .ref h_aside_3, .int (mn aside), .int (ma aside), .int (yr aside), .int (dw aside)], ai G h_aside_0 6 (kd aside), ai G h_aside_1 18 (pl aside), ai G h_aside_2 6 (lf aside), ai G h_aside_3 6 (se aside), arf G h_sheets 7 4 shf, oc h_sheets_x 8 [.ref h_sheets_x_r], ay G h_sheets_x_r rn rw]) [15, 0, 1, 2, 3, 4, 5, 16, 17, 18, 19, 20, 6, 7, 8, 9, 10, 11, 12, 13, 14] (by decide) rfl
        exact W.iret (v := (-1 : Int32)) hx hb hr (fun t ht hW => ⟨⟨(-1 : Int32), (now, failing, aside, rw), rfl, hw, by rw [ht]; exact hP9, hD9⟩, hS.F ht⟩) hS.2.2 dX0_film_30
