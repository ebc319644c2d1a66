set_option maxRecDepth 100000
/-! BattleBench$Bench.<init> -/
def ini_X6_init (G : GT) (h : Nat) (u : Nat → Nat) : va_W := [oc h 6 [.ref (u 0), .ref (u 1), .ref (u 2), .ref (u 3), .int (0 : Int32), .int (0 : Int32), .int (0 : Int32), .int (0 : Int32)], ai G (u 0) 6 (fun _ => 0), ai G (u 1) 18 (fun _ => 0), ai G (u 2) 6 (fun _ => 0), ai G (u 3) 6 (fun _ => 0)]
set_option maxHeartbeats 8000000 in
theorem mt_X6_init (l : Launch) (G : GT) (h sz : Nat) : Met l yX6_init (ws_ yX6_init cX6_init 1 none) ({ frames := 1, cells := 4, slots := 36, locals := 64 } : Room) (va_Pc [.ref h] (fun U => U.heap.size = sz ∧ va_P G.1 gCl [oc h 6 [.null, .null, .null, .null, .int (0 : Int32), .int (0 : Int32), .int (0 : Int32), .int (0 : Int32)]] U.heap ∧ gK G U ∧ va_D (fun _ => True) [oc h 6 [.null, .null, .null, .null, .int (0 : Int32), .int (0 : Int32), .int (0 : Int32), .int (0 : Int32)]])) ((fun A => va_Qv (fun (_ : Nat → Nat) => True) (fun u t => va_P G.1 gCl (ini_X6_init G h u) t.heap ∧ va_D A (ini_X6_init G h u)) A) (va_A [oc h 6 [.null, .null, .null, .null, .int (0 : Int32), .int (0 : Int32), .int (0 : Int32), .int (0 : Int32)]] sz)) 4 36 (va_A [oc h 6 [.null, .null, .null, .null, .int (0 : Int32), .int (0 : Int32), .int (0 : Int32), .int (0 : Int32)]] sz) := by
  refine Met.ofW (cc := cX6_init) (maxL := 1) (ret := none) (by decide) rfl ?_
  intro p e s m args below meth c s₁ B hml hv
  obtain ⟨rfl, hsz, hP, hK, hD0⟩ := hv
  have hx := B.exec
  have hb := B.bytes
  have hr := B.returns
  have hts := atoms_spec (ws := (ws_ yX6_init cX6_init 1 none)) B.pre
  have hts : ∀ w ∈ lw_all, w.before _ s = true := fun w h => hts w (List.mem_cons_of_mem _ h)
  have hown : s.vm.findClass RX6 = some m.cls := findClass_of_methodNamed B.named
  have hlocks := B.notSynchronized
  have hin : meth.name = "<init>" := (name_of_methodNamed B.named B.method).1
  subst hsz
  have hD := hD0.self (sz := s.heap.size)
  generalize hAe : va_A [oc h 6 [.null, .null, .null, .null, .int (0 : Int32), .int (0 : Int32), .int (0 : Int32), .int (0 : Int32)]] s.heap.size = A at hD ⊢
  have hA : ∀ q : Nat, s.heap.size ≤ q → A q := fun q h => by rw [← hAe]; exact Or.inr h
  have hS : va_S A s.heap s.heap [] := va_S.rf
  have hl := lv_entry ([.ref h]) (n := 1) (Nat.le_of_ble_eq_true rfl)
  rw [lg_entry_eq]
  generalize (lg_sl ([.ref h]) ++ List.replicate (1 - (lg_sl ([.ref h])).length) Slot.unset).toArray = ls at hl ⊢
  have hl : lv_has ls 1 [(0, .ref h)] := hl
  refine lv_aload_n hx hb dX6_init_0 rfl (lv_at hl 0 rfl) ?_
  refine W.objInit hx hb hown (hts _ q126) (hts _ q83) (hts _ q84) rfl (by rw [hml]; exact hl.1) rfl dX6_init_1 (Nat.le_of_ble_eq_true rfl) (Nat.le_of_ble_eq_true rfl) ?_
  show W _ _ _ _ _ _ _ _ _ _ _ _ _ _ _ (F0 m 4 ls [])
  refine lv_aload_n hx hb dX6_init_4 rfl (lv_at hl 0 rfl) ?_
  refine lv_bipush (v := (6 : Int32)) hx hb dX6_init_5 (by decide) ?_
  refine va_newa (atype := .int) hx hb (hts _ q161) (ty := .int) rfl hK.1 hP hD hS hA (N' := 6) (a0 := (6, .inl (fun _ => 0))) (fun _ => rfl) (by decide) (by decide) (by decide) (Nat.le_of_ble_eq_true rfl) (Nat.le_of_ble_eq_true rfl) dX6_init_7 (fun q_1 cA H hK1 hP hD hS => ?_)
  cases x_same hK.1 hK1 0 rfl
  have hP : va_P G.1 gCl [oc h 6 [.null, .null, .null, .null, .int (0 : Int32), .int (0 : Int32), .int (0 : Int32), .int (0 : Int32)], ai G q_1 6 (fun _ => 0)] H := hP
  have hD : va_D A [oc h 6 [.null, .null, .null, .null, .int (0 : Int32), .int (0 : Int32), .int (0 : Int32), .int (0 : Int32)], ai G q_1 6 (fun _ => 0)] := hD
  refine va_putF (D := G.1) (ci := 6) (v := .ref q_1) (ty := (.array .int)) (C := RX6) (T := TX6) (N := 8) hx hb hts in_X6 tyX6 tyX6_ok nmX6 hown hK.1 hP hD hS 0 rfl rfl 0 (by decide) (hts _ q127) (fun _ h9 => h9) rfl hin rfl (by decide +kernel) rfl rfl (Nat.le_of_ble_eq_true rfl) dX6_init_9 (fun H locs hP hD hS => ?_)
  have hP : va_P G.1 gCl [oc h 6 [.ref q_1, .null, .null, .null, .int (0 : Int32), .int (0 : Int32), .int (0 : Int32), .int (0 : Int32)], ai G q_1 6 (fun _ => 0)] H := hP
  have hD : va_D A [oc h 6 [.ref q_1, .null, .null, .null, .int (0 : Int32), .int (0 : Int32), .int (0 : Int32), .int (0 : Int32)], ai G q_1 6 (fun _ => 0)] := hD
  refine lv_aload_n hx hb dX6_init_12 rfl (lv_at hl 0 rfl) ?_
  refine lv_bipush (v := (18 : Int32)) hx hb dX6_init_13 (by decide) ?_
  refine va_newa (atype := .int) hx hb (hts _ q161) (ty := .int) rfl hK.1 hP hD hS hA (N' := 18) (a0 := (18, .inl (fun _ => 0))) (fun _ => rfl) (by decide) (by decide) (by decide) (Nat.le_of_ble_eq_true rfl) (Nat.le_of_ble_eq_true rfl) dX6_init_15 (fun q_2 cA H hK1 hP hD hS => ?_)
  cases x_same hK.1 hK1 0 rfl
  have hP : va_P G.1 gCl [oc h 6 [.ref q_1, .null, .null, .null, .int (0 : Int32), .int (0 : Int32), .int (0 : Int32), .int (0 : Int32)], ai G q_1 6 (fun _ => 0), ai G q_2 18 (fun _ => 0)] H := hP
  have hD : va_D A [oc h 6 [.ref q_1, .null, .null, .null, .int (0 : Int32), .int (0 : Int32), .int (0 : Int32), .int (0 : Int32)], ai G q_1 6 (fun _ => 0), ai G q_2 18 (fun _ => 0)] := hD
  refine va_putF (D := G.1) (ci := 6) (v := .ref q_2) (ty := (.array .int)) (C := RX6) (T := TX6) (N := 8) hx hb hts in_X6 tyX6 tyX6_ok nmX6 hown hK.1 hP hD hS 0 rfl rfl 1 (by decide) (hts _ q129) (fun _ h9 => h9) rfl hin rfl (by decide +kernel) rfl rfl (Nat.le_of_ble_eq_true rfl) dX6_init_17 (fun H locs hP hD hS => ?_)
  have hP : va_P G.1 gCl [oc h 6 [.ref q_1, .ref q_2, .null, .null, .int (0 : Int32), .int (0 : Int32), .int (0 : Int32), .int (0 : Int32)], ai G q_1 6 (fun _ => 0), ai G q_2 18 (fun _ => 0)] H := hP
  have hD : va_D A [oc h 6 [.ref q_1, .ref q_2, .null, .null, .int (0 : Int32), .int (0 : Int32), .int (0 : Int32), .int (0 : Int32)], ai G q_1 6 (fun _ => 0), ai G q_2 18 (fun _ => 0)] := hD
  refine lv_aload_n hx hb dX6_init_20 rfl (lv_at hl 0 rfl) ?_
  refine lv_bipush (v := (6 : Int32)) hx hb dX6_init_21 (by decide) ?_
  refine va_newa (atype := .int) hx hb (hts _ q161) (ty := .int) rfl hK.1 hP hD hS hA (N' := 6) (a0 := (6, .inl (fun _ => 0))) (fun _ => rfl) (by decide) (by decide) (by decide) (Nat.le_of_ble_eq_true rfl) (Nat.le_of_ble_eq_true rfl) dX6_init_23 (fun q_3 cA H hK1 hP hD hS => ?_)
  cases x_same hK.1 hK1 0 rfl
  have hP : va_P G.1 gCl [oc h 6 [.ref q_1, .ref q_2, .null, .null, .int (0 : Int32), .int (0 : Int32), .int (0 : Int32), .int (0 : Int32)], ai G q_1 6 (fun _ => 0), ai G q_2 18 (fun _ => 0), ai G q_3 6 (fun _ => 0)] H := hP
  have hD : va_D A [oc h 6 [.ref q_1, .ref q_2, .null, .null, .int (0 : Int32), .int (0 : Int32), .int (0 : Int32), .int (0 : Int32)], ai G q_1 6 (fun _ => 0), ai G q_2 18 (fun _ => 0), ai G q_3 6 (fun _ => 0)] := hD
  refine va_putF (D := G.1) (ci := 6) (v := .ref q_3) (ty := (.array .int)) (C := RX6) (T := TX6) (N := 8) hx hb hts in_X6 tyX6 tyX6_ok nmX6 hown hK.1 hP hD hS 0 rfl rfl 2 (by decide) (hts _ q131) (fun _ h9 => h9) rfl hin rfl (by decide +kernel) rfl rfl (Nat.le_of_ble_eq_true rfl) dX6_init_25 (fun H locs hP hD hS => ?_)
  have hP : va_P G.1 gCl [oc h 6 [.ref q_1, .ref q_2, .ref q_3, .null, .int (0 : Int32), .int (0 : Int32), .int (0 : Int32), .int (0 : Int32)], ai G q_1 6 (fun _ => 0), ai G q_2 18 (fun _ => 0), ai G q_3 6 (fun _ => 0)] H := hP
  have hD : va_D A [oc h 6 [.ref q_1, .ref q_2, .ref q_3, .null, .int (0 : Int32), .int (0 : Int32), .int (0 : Int32), .int (0 : Int32)], ai G q_1 6 (fun _ => 0), ai G q_2 18 (fun _ => 0), ai G q_3 6 (fun _ => 0)] := hD
  refine lv_aload_n hx hb dX6_init_28 rfl (lv_at hl 0 rfl) ?_
  refine lv_bipush (v := (6 : Int32)) hx hb dX6_init_29 (by decide) ?_
  refine va_newa (atype := .int) hx hb (hts _ q161) (ty := .int) rfl hK.1 hP hD hS hA (N' := 6) (a0 := (6, .inl (fun _ => 0))) (fun _ => rfl) (by decide) (by decide) (by decide) (Nat.le_of_ble_eq_true rfl) (Nat.le_of_ble_eq_true rfl) dX6_init_31 (fun q_4 cA H hK1 hP hD hS => ?_)
  cases x_same hK.1 hK1 0 rfl
  have hP : va_P G.1 gCl [oc h 6 [.ref q_1, .ref q_2, .ref q_3, .null, .int (0 : Int32), .int (0 : Int32), .int (0 : Int32), .int (0 : Int32)], ai G q_1 6 (fun _ => 0), ai G q_2 18 (fun _ => 0), ai G q_3 6 (fun _ => 0), ai G q_4 6 (fun _ => 0)] H := hP
  have hD : va_D A [oc h 6 [.ref q_1, .ref q_2, .ref q_3, .null, .int (0 : Int32), .int (0 : Int32), .int (0 : Int32), .int (0 : Int32)], ai G q_1 6 (fun _ => 0), ai G q_2 18 (fun _ => 0), ai G q_3 6 (fun _ => 0), ai G q_4 6 (fun _ => 0)] := hD
  refine va_putF (D := G.1) (ci := 6) (v := .ref q_4) (ty := (.array .int)) (C := RX6) (T := TX6) (N := 8) hx hb hts in_X6 tyX6 tyX6_ok nmX6 hown hK.1 hP hD hS 0 rfl rfl 3 (by decide) (hts _ q133) (fun _ h9 => h9) rfl hin rfl (by decide +kernel) rfl rfl (Nat.le_of_ble_eq_true rfl) dX6_init_33 (fun H locs hP hD hS => ?_)
  have hP : va_P G.1 gCl [oc h 6 [.ref q_1, .ref q_2, .ref q_3, .ref q_4, .int (0 : Int32), .int (0 : Int32), .int (0 : Int32), .int (0 : Int32)], ai G q_1 6 (fun _ => 0), ai G q_2 18 (fun _ => 0), ai G q_3 6 (fun _ => 0), ai G q_4 6 (fun _ => 0)] H := hP
  have hD : va_D A [oc h 6 [.ref q_1, .ref q_2, .ref q_3, .ref q_4, .int (0 : Int32), .int (0 : Int32), .int (0 : Int32), .int (0 : Int32)], ai G q_1 6 (fun _ => 0), ai G q_2 18 (fun _ => 0), ai G q_3 6 (fun _ => 0), ai G q_4 6 (fun _ => 0)] := hD
  exact W.vret hx hb hr (fun t ht hW => ⟨⟨fun k => ([q_1, q_2, q_3, q_4] : List Nat).getD k 0, rfl, trivial, by rw [ht]; exact hP, hD⟩, hS.F ht⟩) hS.2.2 dX6_init_36
/-! BattleBench$Sheet.<init> -/
def ini_X8_init (G : GT) (h : Nat) (u : Nat → Nat) : va_W := [oc h 8 [.null]]
set_option maxHeartbeats 8000000 in
theorem mt_X8_init (l : Launch) (G : GT) (h sz : Nat) : Met l yX8_init (ws_ yX8_init cX8_init 1 none) ({ frames := 1, cells := 0, slots := 0, locals := 64 } : Room) (va_Pc [.ref h] (fun U => U.heap.size = sz ∧ va_P G.1 gCl [oc h 8 [.null]] U.heap ∧ gK G U ∧ va_D (fun _ => True) [oc h 8 [.null]])) ((fun A => va_Qv (fun (_ : Nat → Nat) => True) (fun u t => va_P G.1 gCl (ini_X8_init G h u) t.heap ∧ va_D A (ini_X8_init G h u)) A) (va_A [oc h 8 [.null]] sz)) 0 0 (va_A [oc h 8 [.null]] sz) := by
  refine Met.ofW (cc := cX8_init) (maxL := 1) (ret := none) (by decide) rfl ?_
  intro p e s m args below meth c s₁ B hml hv
  obtain ⟨rfl, hsz, hP, hK, hD0⟩ := hv
  have hx := B.exec
  have hb := B.bytes
  have hr := B.returns
  have hts := atoms_spec (ws := (ws_ yX8_init cX8_init 1 none)) B.pre
  have hts : ∀ w ∈ lw_all, w.before _ s = true := fun w h => hts w (List.mem_cons_of_mem _ h)
  have hown : s.vm.findClass RX8 = some m.cls := findClass_of_methodNamed B.named
  have hlocks := B.notSynchronized
  have hin : meth.name = "<init>" := (name_of_methodNamed B.named B.method).1
  subst hsz
  have hD := hD0.self (sz := s.heap.size)
  generalize hAe : va_A [oc h 8 [.null]] s.heap.size = A at hD ⊢
  have hA : ∀ q : Nat, s.heap.size ≤ q → A q := fun q h => by rw [← hAe]; exact Or.inr h
  have hS : va_S A s.heap s.heap [] := va_S.rf
  have hl := lv_entry ([.ref h]) (n := 1) (Nat.le_of_ble_eq_true rfl)
  rw [lg_entry_eq]
  generalize (lg_sl ([.ref h]) ++ List.replicate (1 - (lg_sl ([.ref h])).length) Slot.unset).toArray = ls at hl ⊢
  have hl : lv_has ls 1 [(0, .ref h)] := hl
  refine lv_aload_n hx hb dX8_init_0 rfl (lv_at hl 0 rfl) ?_
  refine W.objInit hx hb hown (hts _ q249) (hts _ q83) (hts _ q84) rfl (by rw [hml]; exact hl.1) rfl dX8_init_1 (Nat.le_of_ble_eq_true rfl) (Nat.le_of_ble_eq_true rfl) ?_
  show W _ _ _ _ _ _ _ _ _ _ _ _ _ _ _ (F0 m 4 ls [])
  exact W.vret hx hb hr (fun t ht hW => ⟨⟨fun k => ([] : List Nat).getD k 0, rfl, trivial, by rw [ht]; exact hP, hD⟩, hS.F ht⟩) hS.2.2 dX8_init_4
/-! BattleBench$Plain.<init> -/
def ini_X1_init (G : GT) (h : Nat) (u : Nat → Nat) : va_W := [oc h 1 []]
set_option maxHeartbeats 8000000 in
theorem mt_X1_init (l : Launch) (G : GT) (h sz : Nat) : Met l yX1_init (ws_ yX1_init cX1_init 1 none) ({ frames := 1, cells := 0, slots := 0, locals := 64 } : Room) (va_Pc [.ref h] (fun U => U.heap.size = sz ∧ va_P G.1 gCl [oc h 1 []] U.heap ∧ gK G U ∧ va_D (fun _ => True) [oc h 1 []])) ((fun A => va_Qv (fun (_ : Nat → Nat) => True) (fun u t => va_P G.1 gCl (ini_X1_init G h u) t.heap ∧ va_D A (ini_X1_init G h u)) A) (va_A [oc h 1 []] sz)) 0 0 (va_A [oc h 1 []] sz) := by
  refine Met.ofW (cc := cX1_init) (maxL := 1) (ret := none) (by decide) rfl ?_
  intro p e s m args below meth c s₁ B hml hv
  obtain ⟨rfl, hsz, hP, hK, hD0⟩ := hv
  have hx := B.exec
  have hb := B.bytes
  have hr := B.returns
  have hts := atoms_spec (ws := (ws_ yX1_init cX1_init 1 none)) B.pre
  have hts : ∀ w ∈ lw_all, w.before _ s = true := fun w h => hts w (List.mem_cons_of_mem _ h)
  have hown : s.vm.findClass RX1 = some m.cls := findClass_of_methodNamed B.named
  have hlocks := B.notSynchronized
  have hin : meth.name = "<init>" := (name_of_methodNamed B.named B.method).1
  subst hsz
  have hD := hD0.self (sz := s.heap.size)
  generalize hAe : va_A [oc h 1 []] s.heap.size = A at hD ⊢
  have hA : ∀ q : Nat, s.heap.size ≤ q → A q := fun q h => by rw [← hAe]; exact Or.inr h
  have hS : va_S A s.heap s.heap [] := va_S.rf
  have hl := lv_entry ([.ref h]) (n := 1) (Nat.le_of_ble_eq_true rfl)
  rw [lg_entry_eq]
  generalize (lg_sl ([.ref h]) ++ List.replicate (1 - (lg_sl ([.ref h])).length) Slot.unset).toArray = ls at hl ⊢
  have hl : lv_has ls 1 [(0, .ref h)] := hl
  refine lv_aload_n hx hb dX1_init_0 rfl (lv_at hl 0 rfl) ?_
  refine W.objInit hx hb hown (hts _ q91) (hts _ q83) (hts _ q84) rfl (by rw [hml]; exact hl.1) rfl dX1_init_1 (Nat.le_of_ble_eq_true rfl) (Nat.le_of_ble_eq_true rfl) ?_
  show W _ _ _ _ _ _ _ _ _ _ _ _ _ _ _ (F0 m 4 ls [])
  exact W.vret hx hb hr (fun t ht hW => ⟨⟨fun k => ([] : List Nat).getD k 0, rfl, trivial, by rw [ht]; exact hP, hD⟩, hS.F ht⟩) hS.2.2 dX1_init_4
/-! BattleBench$Plain.<init> -/
def ini_X1_init_2 (G : GT) (h : Nat) (u : Nat → Nat) : va_W := [oc h 2 []]
set_option maxHeartbeats 8000000 in
theorem mt_X1_init_2 (l : Launch) (G : GT) (h sz : Nat) : Met l yX1_init (ws_ yX1_init cX1_init 1 none) ({ frames := 1, cells := 0, slots := 0, locals := 64 } : Room) (va_Pc [.ref h] (fun U => U.heap.size = sz ∧ va_P G.1 gCl [oc h 2 []] U.heap ∧ gK G U ∧ va_D (fun _ => True) [oc h 2 []])) ((fun A => va_Qv (fun (_ : Nat → Nat) => True) (fun u t => va_P G.1 gCl (ini_X1_init_2 G h u) t.heap ∧ va_D A (ini_X1_init_2 G h u)) A) (va_A [oc h 2 []] sz)) 0 0 (va_A [oc h 2 []] sz) := by
  refine Met.ofW (cc := cX1_init) (maxL := 1) (ret := none) (by decide) rfl ?_
  intro p e s m args below meth c s₁ B hml hv
  obtain ⟨rfl, hsz, hP, hK, hD0⟩ := hv
  have hx := B.exec
  have hb := B.bytes
  have hr := B.returns
  have hts := atoms_spec (ws := (ws_ yX1_init cX1_init 1 none)) B.pre
  have hts : ∀ w ∈ lw_all, w.before _ s = true := fun w h => hts w (List.mem_cons_of_mem _ h)
  have hown : s.vm.findClass RX1 = some m.cls := findClass_of_methodNamed B.named
  have hlocks := B.notSynchronized
  have hin : meth.name = "<init>" := (name_of_methodNamed B.named B.method).1
  subst hsz
  have hD := hD0.self (sz := s.heap.size)
  generalize hAe : va_A [oc h 2 []] s.heap.size = A at hD ⊢
  have hA : ∀ q : Nat, s.heap.size ≤ q → A q := fun q h => by rw [← hAe]; exact Or.inr h
  have hS : va_S A s.heap s.heap [] := va_S.rf
  have hl := lv_entry ([.ref h]) (n := 1) (Nat.le_of_ble_eq_true rfl)
  rw [lg_entry_eq]
  generalize (lg_sl ([.ref h]) ++ List.replicate (1 - (lg_sl ([.ref h])).length) Slot.unset).toArray = ls at hl ⊢
  have hl : lv_has ls 1 [(0, .ref h)] := hl
  refine lv_aload_n hx hb dX1_init_0 rfl (lv_at hl 0 rfl) ?_
  refine W.objInit hx hb hown (hts _ q91) (hts _ q83) (hts _ q84) rfl (by rw [hml]; exact hl.1) rfl dX1_init_1 (Nat.le_of_ble_eq_true rfl) (Nat.le_of_ble_eq_true rfl) ?_
  show W _ _ _ _ _ _ _ _ _ _ _ _ _ _ _ (F0 m 4 ls [])
  exact W.vret hx hb hr (fun t ht hW => ⟨⟨fun k => ([] : List Nat).getD k 0, rfl, trivial, by rw [ht]; exact hP, hD⟩, hS.F ht⟩) hS.2.2 dX1_init_4
/-! BattleBench$Plain.<init> -/
def ini_X1_init_3 (G : GT) (h : Nat) (u : Nat → Nat) : va_W := [oc h 3 []]
set_option maxHeartbeats 8000000 in
theorem mt_X1_init_3 (l : Launch) (G : GT) (h sz : Nat) : Met l yX1_init (ws_ yX1_init cX1_init 1 none) ({ frames := 1, cells := 0, slots := 0, locals := 64 } : Room) (va_Pc [.ref h] (fun U => U.heap.size = sz ∧ va_P G.1 gCl [oc h 3 []] U.heap ∧ gK G U ∧ va_D (fun _ => True) [oc h 3 []])) ((fun A => va_Qv (fun (_ : Nat → Nat) => True) (fun u t => va_P G.1 gCl (ini_X1_init_3 G h u) t.heap ∧ va_D A (ini_X1_init_3 G h u)) A) (va_A [oc h 3 []] sz)) 0 0 (va_A [oc h 3 []] sz) := by
  refine Met.ofW (cc := cX1_init) (maxL := 1) (ret := none) (by decide) rfl ?_
  intro p e s m args below meth c s₁ B hml hv
  obtain ⟨rfl, hsz, hP, hK, hD0⟩ := hv
  have hx := B.exec
  have hb := B.bytes
  have hr := B.returns
  have hts := atoms_spec (ws := (ws_ yX1_init cX1_init 1 none)) B.pre
  have hts : ∀ w ∈ lw_all, w.before _ s = true := fun w h => hts w (List.mem_cons_of_mem _ h)
  have hown : s.vm.findClass RX1 = some m.cls := findClass_of_methodNamed B.named
  have hlocks := B.notSynchronized
  have hin : meth.name = "<init>" := (name_of_methodNamed B.named B.method).1
  subst hsz
  have hD := hD0.self (sz := s.heap.size)
  generalize hAe : va_A [oc h 3 []] s.heap.size = A at hD ⊢
  have hA : ∀ q : Nat, s.heap.size ≤ q → A q := fun q h => by rw [← hAe]; exact Or.inr h
  have hS : va_S A s.heap s.heap [] := va_S.rf
  have hl := lv_entry ([.ref h]) (n := 1) (Nat.le_of_ble_eq_true rfl)
  rw [lg_entry_eq]
  generalize (lg_sl ([.ref h]) ++ List.replicate (1 - (lg_sl ([.ref h])).length) Slot.unset).toArray = ls at hl ⊢
  have hl : lv_has ls 1 [(0, .ref h)] := hl
  refine lv_aload_n hx hb dX1_init_0 rfl (lv_at hl 0 rfl) ?_
  refine W.objInit hx hb hown (hts _ q91) (hts _ q83) (hts _ q84) rfl (by rw [hml]; exact hl.1) rfl dX1_init_1 (Nat.le_of_ble_eq_true rfl) (Nat.le_of_ble_eq_true rfl) ?_
  show W _ _ _ _ _ _ _ _ _ _ _ _ _ _ _ (F0 m 4 ls [])
  exact W.vret hx hb hr (fun t ht hW => ⟨⟨fun k => ([] : List Nat).getD k 0, rfl, trivial, by rw [ht]; exact hP, hD⟩, hS.F ht⟩) hS.2.2 dX1_init_4
/-! BattleBench$Plain.<init> -/
def ini_X1_init_4 (G : GT) (h : Nat) (u : Nat → Nat) : va_W := [oc h 4 []]
set_option maxHeartbeats 8000000 in
theorem mt_X1_init_4 (l : Launch) (G : GT) (h sz : Nat) : Met l yX1_init (ws_ yX1_init cX1_init 1 none) ({ frames := 1, cells := 0, slots := 0, locals := 64 } : Room) (va_Pc [.ref h] (fun U => U.heap.size = sz ∧ va_P G.1 gCl [oc h 4 []] U.heap ∧ gK G U ∧ va_D (fun _ => True) [oc h 4 []])) ((fun A => va_Qv (fun (_ : Nat → Nat) => True) (fun u t => va_P G.1 gCl (ini_X1_init_4 G h u) t.heap ∧ va_D A (ini_X1_init_4 G h u)) A) (va_A [oc h 4 []] sz)) 0 0 (va_A [oc h 4 []] sz) := by
  refine Met.ofW (cc := cX1_init) (maxL := 1) (ret := none) (by decide) rfl ?_
  intro p e s m args below meth c s₁ B hml hv
  obtain ⟨rfl, hsz, hP, hK, hD0⟩ := hv
  have hx := B.exec
  have hb := B.bytes
  have hr := B.returns
  have hts := atoms_spec (ws := (ws_ yX1_init cX1_init 1 none)) B.pre
  have hts : ∀ w ∈ lw_all, w.before _ s = true := fun w h => hts w (List.mem_cons_of_mem _ h)
  have hown : s.vm.findClass RX1 = some m.cls := findClass_of_methodNamed B.named
  have hlocks := B.notSynchronized
  have hin : meth.name = "<init>" := (name_of_methodNamed B.named B.method).1
  subst hsz
  have hD := hD0.self (sz := s.heap.size)
  generalize hAe : va_A [oc h 4 []] s.heap.size = A at hD ⊢
  have hA : ∀ q : Nat, s.heap.size ≤ q → A q := fun q h => by rw [← hAe]; exact Or.inr h
  have hS : va_S A s.heap s.heap [] := va_S.rf
  have hl := lv_entry ([.ref h]) (n := 1) (Nat.le_of_ble_eq_true rfl)
  rw [lg_entry_eq]
  generalize (lg_sl ([.ref h]) ++ List.replicate (1 - (lg_sl ([.ref h])).length) Slot.unset).toArray = ls at hl ⊢
  have hl : lv_has ls 1 [(0, .ref h)] := hl
  refine lv_aload_n hx hb dX1_init_0 rfl (lv_at hl 0 rfl) ?_
  refine W.objInit hx hb hown (hts _ q91) (hts _ q83) (hts _ q84) rfl (by rw [hml]; exact hl.1) rfl dX1_init_1 (Nat.le_of_ble_eq_true rfl) (Nat.le_of_ble_eq_true rfl) ?_
  show W _ _ _ _ _ _ _ _ _ _ _ _ _ _ _ (F0 m 4 ls [])
  exact W.vret hx hb hr (fun t ht hW => ⟨⟨fun k => ([] : List Nat).getD k 0, rfl, trivial, by rw [ht]; exact hP, hD⟩, hS.F ht⟩) hS.2.2 dX1_init_4
/-! BattleBench$Plain.<init> -/
def ini_X1_init_5 (G : GT) (h : Nat) (u : Nat → Nat) : va_W := [oc h 5 []]
set_option maxHeartbeats 8000000 in
theorem mt_X1_init_5 (l : Launch) (G : GT) (h sz : Nat) : Met l yX1_init (ws_ yX1_init cX1_init 1 none) ({ frames := 1, cells := 0, slots := 0, locals := 64 } : Room) (va_Pc [.ref h] (fun U => U.heap.size = sz ∧ va_P G.1 gCl [oc h 5 []] U.heap ∧ gK G U ∧ va_D (fun _ => True) [oc h 5 []])) ((fun A => va_Qv (fun (_ : Nat → Nat) => True) (fun u t => va_P G.1 gCl (ini_X1_init_5 G h u) t.heap ∧ va_D A (ini_X1_init_5 G h u)) A) (va_A [oc h 5 []] sz)) 0 0 (va_A [oc h 5 []] sz) := by
  refine Met.ofW (cc := cX1_init) (maxL := 1) (ret := none) (by decide) rfl ?_
  intro p e s m args below meth c s₁ B hml hv
  obtain ⟨rfl, hsz, hP, hK, hD0⟩ := hv
  have hx := B.exec
  have hb := B.bytes
  have hr := B.returns
  have hts := atoms_spec (ws := (ws_ yX1_init cX1_init 1 none)) B.pre
  have hts : ∀ w ∈ lw_all, w.before _ s = true := fun w h => hts w (List.mem_cons_of_mem _ h)
  have hown : s.vm.findClass RX1 = some m.cls := findClass_of_methodNamed B.named
  have hlocks := B.notSynchronized
  have hin : meth.name = "<init>" := (name_of_methodNamed B.named B.method).1
  subst hsz
  have hD := hD0.self (sz := s.heap.size)
  generalize hAe : va_A [oc h 5 []] s.heap.size = A at hD ⊢
  have hA : ∀ q : Nat, s.heap.size ≤ q → A q := fun q h => by rw [← hAe]; exact Or.inr h
  have hS : va_S A s.heap s.heap [] := va_S.rf
  have hl := lv_entry ([.ref h]) (n := 1) (Nat.le_of_ble_eq_true rfl)
  rw [lg_entry_eq]
  generalize (lg_sl ([.ref h]) ++ List.replicate (1 - (lg_sl ([.ref h])).length) Slot.unset).toArray = ls at hl ⊢
  have hl : lv_has ls 1 [(0, .ref h)] := hl
  refine lv_aload_n hx hb dX1_init_0 rfl (lv_at hl 0 rfl) ?_
  refine W.objInit hx hb hown (hts _ q91) (hts _ q83) (hts _ q84) rfl (by rw [hml]; exact hl.1) rfl dX1_init_1 (Nat.le_of_ble_eq_true rfl) (Nat.le_of_ble_eq_true rfl) ?_
  show W _ _ _ _ _ _ _ _ _ _ _ _ _ _ _ (F0 m 4 ls [])
  exact W.vret hx hb hr (fun t ht hW => ⟨⟨fun k => ([] : List Nat).getD k 0, rfl, trivial, by rw [ht]; exact hP, hD⟩, hS.F ht⟩) hS.2.2 dX1_init_4
/-! BattleBench$Hale.<init> -/
def ini_X2_init (G : GT) (h : Nat) (u : Nat → Nat) : va_W := [oc h 2 []]
set_option maxHeartbeats 8000000 in
theorem mt_X2_init (l : Launch) (G : GT) (h sz : Nat) : Met l yX2_init (ws_ yX2_init cX2_init 1 none) ({ frames := 2, cells := 0, slots := 0, locals := 84 } : Room) (va_Pc [.ref h] (fun U => U.heap.size = sz ∧ va_P G.1 gCl [oc h 2 []] U.heap ∧ gK G U ∧ va_D (fun _ => True) [oc h 2 []])) ((fun A => va_Qv (fun (_ : Nat → Nat) => True) (fun u t => va_P G.1 gCl (ini_X2_init G h u) t.heap ∧ va_D A (ini_X2_init G h u)) A) (va_A [oc h 2 []] sz)) 0 0 (va_A [oc h 2 []] sz) := by
  refine Met.ofW (cc := cX2_init) (maxL := 1) (ret := none) (by decide) rfl ?_
  intro p e s m args below meth c s₁ B hml hv
  obtain ⟨rfl, hsz, hP, hK, hD0⟩ := hv
  have hx := B.exec
  have hb := B.bytes
  have hr := B.returns
  have hts := atoms_spec (ws := (ws_ yX2_init cX2_init 1 none)) B.pre
  have hts : ∀ w ∈ lw_all, w.before _ s = true := fun w h => hts w (List.mem_cons_of_mem _ h)
  have hown : s.vm.findClass RX2 = some m.cls := findClass_of_methodNamed B.named
  have hlocks := B.notSynchronized
  have hin : meth.name = "<init>" := (name_of_methodNamed B.named B.method).1
  subst hsz
  have hD := hD0.self (sz := s.heap.size)
  generalize hAe : va_A [oc h 2 []] s.heap.size = A at hD ⊢
  have hA : ∀ q : Nat, s.heap.size ≤ q → A q := fun q h => by rw [← hAe]; exact Or.inr h
  have hS : va_S A s.heap s.heap [] := va_S.rf
  have hl := lv_entry ([.ref h]) (n := 1) (Nat.le_of_ble_eq_true rfl)
  rw [lg_entry_eq]
  generalize (lg_sl ([.ref h]) ++ List.replicate (1 - (lg_sl ([.ref h])).length) Slot.unset).toArray = ls at hl ⊢
  have hl : lv_has ls 1 [(0, .ref h)] := hl
  refine lv_aload_n hx hb dX2_init_0 rfl (lv_at hl 0 rfl) ?_
  have hPc := hP.sub (ws' := [oc h 2 []]) [0] rfl
  have hDc := hD.sub (ws' := [oc h 2 []]) [0] (by decide) rfl
  have hFc := va_free (wc := [oc h 2 []]) hD hS hA [0] rfl
  refine va_callv (va_runIN (As := []) (rest := []) ⟨hx, hb, hml, hown, hts⟩ (mt_X1_init_2 l G h s.heap.size) ⟨va_cnB 0 hts (lw_meth q90) rfl rfl rfl (hK.nw q98 rfl) (hts _ q55) (by decide +kernel) ⟨Nat.le_of_ble_eq_true rfl, Nat.le_of_ble_eq_true rfl⟩, rfl, hts _ q89⟩ ⟨fun a U g mk q => by obtain ⟨q0, q1, qP, qK, qD⟩ := q; exact ⟨q0, q1, qP, qK.call, qD⟩, fun U hU hW => ⟨rfl, by rw [hU], by rw [hU]; exact hPc, hK.warm hW, hDc.weaken (fun _ _ _ _ => trivial)⟩⟩ rfl rfl hl.1 rfl (lv_room (Nat.le_of_ble_eq_true rfl)) dX2_init_1 ⟨Nat.le_of_ble_eq_true rfl, Nat.le_of_ble_eq_true rfl⟩) hS (fun q _ h => hFc q h) hFc (fun u_1 t H1 locs ht hvm _ hB hz1 hk1 hS => ?_)
  obtain ⟨hP1, hD1⟩ := hB
  rw [ht] at hP1
  obtain ⟨hP, hD⟩ := va_join (wr := []) (w1 := [oc h 2 []]) hP hD [0] [] rfl rfl (by decide) (by decide) hk1 hFc hP1 hD1
  clear hPc hDc hFc hP1 hD1 hz1 hk1 hvm
  generalize H1 = H at hP hS ⊢
  have hP : va_P G.1 gCl [oc h 2 []] H := hP
  have hD : va_D A [oc h 2 []] := hD
  exact W.vret hx hb hr (fun t ht hW => ⟨⟨fun k => ([] : List Nat).getD k 0, rfl, trivial, by rw [ht]; exact hP, hD⟩, hS.F ht⟩) hS.2.2 dX2_init_4
/-! BattleBench$Hale.<init> -/
def ini_X2_init_4 (G : GT) (h : Nat) (u : Nat → Nat) : va_W := [oc h 4 []]
set_option maxHeartbeats 8000000 in
theorem mt_X2_init_4 (l : Launch) (G : GT) (h sz : Nat) : Met l yX2_init (ws_ yX2_init cX2_init 1 none) ({ frames := 2, cells := 0, slots := 0, locals := 84 } : Room) (va_Pc [.ref h] (fun U => U.heap.size = sz ∧ va_P G.1 gCl [oc h 4 []] U.heap ∧ gK G U ∧ va_D (fun _ => True) [oc h 4 []])) ((fun A => va_Qv (fun (_ : Nat → Nat) => True) (fun u t => va_P G.1 gCl (ini_X2_init_4 G h u) t.heap ∧ va_D A (ini_X2_init_4 G h u)) A) (va_A [oc h 4 []] sz)) 0 0 (va_A [oc h 4 []] sz) := by
  refine Met.ofW (cc := cX2_init) (maxL := 1) (ret := none) (by decide) rfl ?_
  intro p e s m args below meth c s₁ B hml hv
  obtain ⟨rfl, hsz, hP, hK, hD0⟩ := hv
  have hx := B.exec
  have hb := B.bytes
  have hr := B.returns
  have hts := atoms_spec (ws := (ws_ yX2_init cX2_init 1 none)) B.pre
  have hts : ∀ w ∈ lw_all, w.before _ s = true := fun w h => hts w (List.mem_cons_of_mem _ h)
  have hown : s.vm.findClass RX2 = some m.cls := findClass_of_methodNamed B.named
  have hlocks := B.notSynchronized
  have hin : meth.name = "<init>" := (name_of_methodNamed B.named B.method).1
  subst hsz
  have hD := hD0.self (sz := s.heap.size)
  generalize hAe : va_A [oc h 4 []] s.heap.size = A at hD ⊢
  have hA : ∀ q : Nat, s.heap.size ≤ q → A q := fun q h => by rw [← hAe]; exact Or.inr h
  have hS : va_S A s.heap s.heap [] := va_S.rf
  have hl := lv_entry ([.ref h]) (n := 1) (Nat.le_of_ble_eq_true rfl)
  rw [lg_entry_eq]
  generalize (lg_sl ([.ref h]) ++ List.replicate (1 - (lg_sl ([.ref h])).length) Slot.unset).toArray = ls at hl ⊢
  have hl : lv_has ls 1 [(0, .ref h)] := hl
  refine lv_aload_n hx hb dX2_init_0 rfl (lv_at hl 0 rfl) ?_
  have hPc := hP.sub (ws' := [oc h 4 []]) [0] rfl
  have hDc := hD.sub (ws' := [oc h 4 []]) [0] (by decide) rfl
  have hFc := va_free (wc := [oc h 4 []]) hD hS hA [0] rfl
  refine va_callv (va_runIN (As := []) (rest := []) ⟨hx, hb, hml, hown, hts⟩ (mt_X1_init_4 l G h s.heap.size) ⟨va_cnB 0 hts (lw_meth q90) rfl rfl rfl (hK.nw q98 rfl) (hts _ q55) (by decide +kernel) ⟨Nat.le_of_ble_eq_true rfl, Nat.le_of_ble_eq_true rfl⟩, rfl, hts _ q89⟩ ⟨fun a U g mk q => by obtain ⟨q0, q1, qP, qK, qD⟩ := q; exact ⟨q0, q1, qP, qK.call, qD⟩, fun U hU hW => ⟨rfl, by rw [hU], by rw [hU]; exact hPc, hK.warm hW, hDc.weaken (fun _ _ _ _ => trivial)⟩⟩ rfl rfl hl.1 rfl (lv_room (Nat.le_of_ble_eq_true rfl)) dX2_init_1 ⟨Nat.le_of_ble_eq_true rfl, Nat.le_of_ble_eq_true rfl⟩) hS (fun q _ h => hFc q h) hFc (fun u_1 t H1 locs ht hvm _ hB hz1 hk1 hS => ?_)
  obtain ⟨hP1, hD1⟩ := hB
  rw [ht] at hP1
  obtain ⟨hP, hD⟩ := va_join (wr := []) (w1 := [oc h 4 []]) hP hD [0] [] rfl rfl (by decide) (by decide) hk1 hFc hP1 hD1
  clear hPc hDc hFc hP1 hD1 hz1 hk1 hvm
  generalize H1 = H at hP hS ⊢
  have hP : va_P G.1 gCl [oc h 4 []] H := hP
  have hD : va_D A [oc h 4 []] := hD
  exact W.vret hx hb hr (fun t ht hW => ⟨⟨fun k => ([] : List Nat).getD k 0, rfl, trivial, by rw [ht]; exact hP, hD⟩, hS.F ht⟩) hS.2.2 dX2_init_4
/-! BattleBench$Hurt.<init> -/
def ini_X3_init (G : GT) (h : Nat) (u : Nat → Nat) : va_W := [oc h 3 []]
set_option maxHeartbeats 8000000 in
theorem mt_X3_init (l : Launch) (G : GT) (h sz : Nat) : Met l yX3_init (ws_ yX3_init cX3_init 1 none) ({ frames := 2, cells := 0, slots := 0, locals := 84 } : Room) (va_Pc [.ref h] (fun U => U.heap.size = sz ∧ va_P G.1 gCl [oc h 3 []] U.heap ∧ gK G U ∧ va_D (fun _ => True) [oc h 3 []])) ((fun A => va_Qv (fun (_ : Nat → Nat) => True) (fun u t => va_P G.1 gCl (ini_X3_init G h u) t.heap ∧ va_D A (ini_X3_init G h u)) A) (va_A [oc h 3 []] sz)) 0 0 (va_A [oc h 3 []] sz) := by
  refine Met.ofW (cc := cX3_init) (maxL := 1) (ret := none) (by decide) rfl ?_
  intro p e s m args below meth c s₁ B hml hv
  obtain ⟨rfl, hsz, hP, hK, hD0⟩ := hv
  have hx := B.exec
  have hb := B.bytes
  have hr := B.returns
  have hts := atoms_spec (ws := (ws_ yX3_init cX3_init 1 none)) B.pre
  have hts : ∀ w ∈ lw_all, w.before _ s = true := fun w h => hts w (List.mem_cons_of_mem _ h)
  have hown : s.vm.findClass RX3 = some m.cls := findClass_of_methodNamed B.named
  have hlocks := B.notSynchronized
  have hin : meth.name = "<init>" := (name_of_methodNamed B.named B.method).1
  subst hsz
  have hD := hD0.self (sz := s.heap.size)
  generalize hAe : va_A [oc h 3 []] s.heap.size = A at hD ⊢
  have hA : ∀ q : Nat, s.heap.size ≤ q → A q := fun q h => by rw [← hAe]; exact Or.inr h
  have hS : va_S A s.heap s.heap [] := va_S.rf
  have hl := lv_entry ([.ref h]) (n := 1) (Nat.le_of_ble_eq_true rfl)
  rw [lg_entry_eq]
  generalize (lg_sl ([.ref h]) ++ List.replicate (1 - (lg_sl ([.ref h])).length) Slot.unset).toArray = ls at hl ⊢
  have hl : lv_has ls 1 [(0, .ref h)] := hl
  refine lv_aload_n hx hb dX3_init_0 rfl (lv_at hl 0 rfl) ?_
  have hPc := hP.sub (ws' := [oc h 3 []]) [0] rfl
  have hDc := hD.sub (ws' := [oc h 3 []]) [0] (by decide) rfl
  have hFc := va_free (wc := [oc h 3 []]) hD hS hA [0] rfl
  refine va_callv (va_runIN (As := []) (rest := []) ⟨hx, hb, hml, hown, hts⟩ (mt_X1_init_3 l G h s.heap.size) ⟨va_cnB 0 hts (lw_meth q90) rfl rfl rfl (hK.nw q105 rfl) (hts _ q55) (by decide +kernel) ⟨Nat.le_of_ble_eq_true rfl, Nat.le_of_ble_eq_true rfl⟩, rfl, hts _ q89⟩ ⟨fun a U g mk q => by obtain ⟨q0, q1, qP, qK, qD⟩ := q; exact ⟨q0, q1, qP, qK.call, qD⟩, fun U hU hW => ⟨rfl, by rw [hU], by rw [hU]; exact hPc, hK.warm hW, hDc.weaken (fun _ _ _ _ => trivial)⟩⟩ rfl rfl hl.1 rfl (lv_room (Nat.le_of_ble_eq_true rfl)) dX3_init_1 ⟨Nat.le_of_ble_eq_true rfl, Nat.le_of_ble_eq_true rfl⟩) hS (fun q _ h => hFc q h) hFc (fun u_1 t H1 locs ht hvm _ hB hz1 hk1 hS => ?_)
  obtain ⟨hP1, hD1⟩ := hB
  rw [ht] at hP1
  obtain ⟨hP, hD⟩ := va_join (wr := []) (w1 := [oc h 3 []]) hP hD [0] [] rfl rfl (by decide) (by decide) hk1 hFc hP1 hD1
  clear hPc hDc hFc hP1 hD1 hz1 hk1 hvm
  generalize H1 = H at hP hS ⊢
  have hP : va_P G.1 gCl [oc h 3 []] H := hP
  have hD : va_D A [oc h 3 []] := hD
  exact W.vret hx hb hr (fun t ht hW => ⟨⟨fun k => ([] : List Nat).getD k 0, rfl, trivial, by rw [ht]; exact hP, hD⟩, hS.F ht⟩) hS.2.2 dX3_init_4
/-! BattleBench$Hurt.<init> -/
def ini_X3_init_5 (G : GT) (h : Nat) (u : Nat → Nat) : va_W := [oc h 5 []]
set_option maxHeartbeats 8000000 in
theorem mt_X3_init_5 (l : Launch) (G : GT) (h sz : Nat) : Met l yX3_init (ws_ yX3_init cX3_init 1 none) ({ frames := 2, cells := 0, slots := 0, locals := 84 } : Room) (va_Pc [.ref h] (fun U => U.heap.size = sz ∧ va_P G.1 gCl [oc h 5 []] U.heap ∧ gK G U ∧ va_D (fun _ => True) [oc h 5 []])) ((fun A => va_Qv (fun (_ : Nat → Nat) => True) (fun u t => va_P G.1 gCl (ini_X3_init_5 G h u) t.heap ∧ va_D A (ini_X3_init_5 G h u)) A) (va_A [oc h 5 []] sz)) 0 0 (va_A [oc h 5 []] sz) := by
  refine Met.ofW (cc := cX3_init) (maxL := 1) (ret := none) (by decide) rfl ?_
  intro p e s m args below meth c s₁ B hml hv
  obtain ⟨rfl, hsz, hP, hK, hD0⟩ := hv
  have hx := B.exec
  have hb := B.bytes
  have hr := B.returns
  have hts := atoms_spec (ws := (ws_ yX3_init cX3_init 1 none)) B.pre
  have hts : ∀ w ∈ lw_all, w.before _ s = true := fun w h => hts w (List.mem_cons_of_mem _ h)
  have hown : s.vm.findClass RX3 = some m.cls := findClass_of_methodNamed B.named
  have hlocks := B.notSynchronized
  have hin : meth.name = "<init>" := (name_of_methodNamed B.named B.method).1
  subst hsz
  have hD := hD0.self (sz := s.heap.size)
  generalize hAe : va_A [oc h 5 []] s.heap.size = A at hD ⊢
  have hA : ∀ q : Nat, s.heap.size ≤ q → A q := fun q h => by rw [← hAe]; exact Or.inr h
  have hS : va_S A s.heap s.heap [] := va_S.rf
  have hl := lv_entry ([.ref h]) (n := 1) (Nat.le_of_ble_eq_true rfl)
  rw [lg_entry_eq]
  generalize (lg_sl ([.ref h]) ++ List.replicate (1 - (lg_sl ([.ref h])).length) Slot.unset).toArray = ls at hl ⊢
  have hl : lv_has ls 1 [(0, .ref h)] := hl
  refine lv_aload_n hx hb dX3_init_0 rfl (lv_at hl 0 rfl) ?_
  have hPc := hP.sub (ws' := [oc h 5 []]) [0] rfl
  have hDc := hD.sub (ws' := [oc h 5 []]) [0] (by decide) rfl
  have hFc := va_free (wc := [oc h 5 []]) hD hS hA [0] rfl
  refine va_callv (va_runIN (As := []) (rest := []) ⟨hx, hb, hml, hown, hts⟩ (mt_X1_init_5 l G h s.heap.size) ⟨va_cnB 0 hts (lw_meth q90) rfl rfl rfl (hK.nw q105 rfl) (hts _ q55) (by decide +kernel) ⟨Nat.le_of_ble_eq_true rfl, Nat.le_of_ble_eq_true rfl⟩, rfl, hts _ q89⟩ ⟨fun a U g mk q => by obtain ⟨q0, q1, qP, qK, qD⟩ := q; exact ⟨q0, q1, qP, qK.call, qD⟩, fun U hU hW => ⟨rfl, by rw [hU], by rw [hU]; exact hPc, hK.warm hW, hDc.weaken (fun _ _ _ _ => trivial)⟩⟩ rfl rfl hl.1 rfl (lv_room (Nat.le_of_ble_eq_true rfl)) dX3_init_1 ⟨Nat.le_of_ble_eq_true rfl, Nat.le_of_ble_eq_true rfl⟩) hS (fun q _ h => hFc q h) hFc (fun u_1 t H1 locs ht hvm _ hB hz1 hk1 hS => ?_)
  obtain ⟨hP1, hD1⟩ := hB
  rw [ht] at hP1
  obtain ⟨hP, hD⟩ := va_join (wr := []) (w1 := [oc h 5 []]) hP hD [0] [] rfl rfl (by decide) (by decide) hk1 hFc hP1 hD1
  clear hPc hDc hFc hP1 hD1 hz1 hk1 hvm
  generalize H1 = H at hP hS ⊢
  have hP : va_P G.1 gCl [oc h 5 []] H := hP
  have hD : va_D A [oc h 5 []] := hD
  exact W.vret hx hb hr (fun t ht hW => ⟨⟨fun k => ([] : List Nat).getD k 0, rfl, trivial, by rw [ht]; exact hP, hD⟩, hS.F ht⟩) hS.2.2 dX3_init_4
/-! BattleBench$Drummer.<init> -/
def ini_X4_init (G : GT) (h : Nat) (u : Nat → Nat) : va_W := [oc h 4 []]
set_option maxHeartbeats 8000000 in
theorem mt_X4_init (l : Launch) (G : GT) (h sz : Nat) : Met l yX4_init (ws_ yX4_init cX4_init 1 none) ({ frames := 3, cells := 0, slots := 0, locals := 104 } : Room) (va_Pc [.ref h] (fun U => U.heap.size = sz ∧ va_P G.1 gCl [oc h 4 []] U.heap ∧ gK G U ∧ va_D (fun _ => True) [oc h 4 []])) ((fun A => va_Qv (fun (_ : Nat → Nat) => True) (fun u t => va_P G.1 gCl (ini_X4_init G h u) t.heap ∧ va_D A (ini_X4_init G h u)) A) (va_A [oc h 4 []] sz)) 0 0 (va_A [oc h 4 []] sz) := by
  refine Met.ofW (cc := cX4_init) (maxL := 1) (ret := none) (by decide) rfl ?_
  intro p e s m args below meth c s₁ B hml hv
  obtain ⟨rfl, hsz, hP, hK, hD0⟩ := hv
  have hx := B.exec
  have hb := B.bytes
  have hr := B.returns
  have hts := atoms_spec (ws := (ws_ yX4_init cX4_init 1 none)) B.pre
  have hts : ∀ w ∈ lw_all, w.before _ s = true := fun w h => hts w (List.mem_cons_of_mem _ h)
  have hown : s.vm.findClass RX4 = some m.cls := findClass_of_methodNamed B.named
  have hlocks := B.notSynchronized
  have hin : meth.name = "<init>" := (name_of_methodNamed B.named B.method).1
  subst hsz
  have hD := hD0.self (sz := s.heap.size)
  generalize hAe : va_A [oc h 4 []] s.heap.size = A at hD ⊢
  have hA : ∀ q : Nat, s.heap.size ≤ q → A q := fun q h => by rw [← hAe]; exact Or.inr h
  have hS : va_S A s.heap s.heap [] := va_S.rf
  have hl := lv_entry ([.ref h]) (n := 1) (Nat.le_of_ble_eq_true rfl)
  rw [lg_entry_eq]
  generalize (lg_sl ([.ref h]) ++ List.replicate (1 - (lg_sl ([.ref h])).length) Slot.unset).toArray = ls at hl ⊢
  have hl : lv_has ls 1 [(0, .ref h)] := hl
  refine lv_aload_n hx hb dX4_init_0 rfl (lv_at hl 0 rfl) ?_
  have hPc := hP.sub (ws' := [oc h 4 []]) [0] rfl
  have hDc := hD.sub (ws' := [oc h 4 []]) [0] (by decide) rfl
  have hFc := va_free (wc := [oc h 4 []]) hD hS hA [0] rfl
  refine va_callv (va_runIN (As := []) (rest := []) ⟨hx, hb, hml, hown, hts⟩ (mt_X2_init_4 l G h s.heap.size) ⟨va_cnB 0 hts (lw_meth q97) rfl rfl rfl (hK.nw q112 rfl) (hts _ q56) (by decide +kernel) ⟨Nat.le_of_ble_eq_true rfl, Nat.le_of_ble_eq_true rfl⟩, rfl, hts _ q96⟩ ⟨fun a U g mk q => by obtain ⟨q0, q1, qP, qK, qD⟩ := q; exact ⟨q0, q1, qP, qK.call, qD⟩, fun U hU hW => ⟨rfl, by rw [hU], by rw [hU]; exact hPc, hK.warm hW, hDc.weaken (fun _ _ _ _ => trivial)⟩⟩ rfl rfl hl.1 rfl (lv_room (Nat.le_of_ble_eq_true rfl)) dX4_init_1 ⟨Nat.le_of_ble_eq_true rfl, Nat.le_of_ble_eq_true rfl⟩) hS (fun q _ h => hFc q h) hFc (fun u_1 t H1 locs ht hvm _ hB hz1 hk1 hS => ?_)
  obtain ⟨hP1, hD1⟩ := hB
  rw [ht] at hP1
  obtain ⟨hP, hD⟩ := va_join (wr := []) (w1 := [oc h 4 []]) hP hD [0] [] rfl rfl (by decide) (by decide) hk1 hFc hP1 hD1
  clear hPc hDc hFc hP1 hD1 hz1 hk1 hvm
  generalize H1 = H at hP hS ⊢
  have hP : va_P G.1 gCl [oc h 4 []] H := hP
  have hD : va_D A [oc h 4 []] := hD
  exact W.vret hx hb hr (fun t ht hW => ⟨⟨fun k => ([] : List Nat).getD k 0, rfl, trivial, by rw [ht]; exact hP, hD⟩, hS.F ht⟩) hS.2.2 dX4_init_4
/-! BattleBench$Runner.<init> -/
def ini_X5_init (G : GT) (h : Nat) (u : Nat → Nat) : va_W := [oc h 5 []]
set_option maxHeartbeats 8000000 in
theorem mt_X5_init (l : Launch) (G : GT) (h sz : Nat) : Met l yX5_init (ws_ yX5_init cX5_init 1 none) ({ frames := 3, cells := 0, slots := 0, locals := 104 } : Room) (va_Pc [.ref h] (fun U => U.heap.size = sz ∧ va_P G.1 gCl [oc h 5 []] U.heap ∧ gK G U ∧ va_D (fun _ => True) [oc h 5 []])) ((fun A => va_Qv (fun (_ : Nat → Nat) => True) (fun u t => va_P G.1 gCl (ini_X5_init G h u) t.heap ∧ va_D A (ini_X5_init G h u)) A) (va_A [oc h 5 []] sz)) 0 0 (va_A [oc h 5 []] sz) := by
  refine Met.ofW (cc := cX5_init) (maxL := 1) (ret := none) (by decide) rfl ?_
  intro p e s m args below meth c s₁ B hml hv
  obtain ⟨rfl, hsz, hP, hK, hD0⟩ := hv
  have hx := B.exec
  have hb := B.bytes
  have hr := B.returns
  have hts := atoms_spec (ws := (ws_ yX5_init cX5_init 1 none)) B.pre
  have hts : ∀ w ∈ lw_all, w.before _ s = true := fun w h => hts w (List.mem_cons_of_mem _ h)
  have hown : s.vm.findClass RX5 = some m.cls := findClass_of_methodNamed B.named
  have hlocks := B.notSynchronized
  have hin : meth.name = "<init>" := (name_of_methodNamed B.named B.method).1
  subst hsz
  have hD := hD0.self (sz := s.heap.size)
  generalize hAe : va_A [oc h 5 []] s.heap.size = A at hD ⊢
  have hA : ∀ q : Nat, s.heap.size ≤ q → A q := fun q h => by rw [← hAe]; exact Or.inr h
  have hS : va_S A s.heap s.heap [] := va_S.rf
  have hl := lv_entry ([.ref h]) (n := 1) (Nat.le_of_ble_eq_true rfl)
  rw [lg_entry_eq]
  generalize (lg_sl ([.ref h]) ++ List.replicate (1 - (lg_sl ([.ref h])).length) Slot.unset).toArray = ls at hl ⊢
  have hl : lv_has ls 1 [(0, .ref h)] := hl
  refine lv_aload_n hx hb dX5_init_0 rfl (lv_at hl 0 rfl) ?_
  have hPc := hP.sub (ws' := [oc h 5 []]) [0] rfl
  have hDc := hD.sub (ws' := [oc h 5 []]) [0] (by decide) rfl
  have hFc := va_free (wc := [oc h 5 []]) hD hS hA [0] rfl
  refine va_callv (va_runIN (As := []) (rest := []) ⟨hx, hb, hml, hown, hts⟩ (mt_X3_init_5 l G h s.heap.size) ⟨va_cnB 0 hts (lw_meth q104) rfl rfl rfl (hK.nw q119 rfl) (hts _ q57) (by decide +kernel) ⟨Nat.le_of_ble_eq_true rfl, Nat.le_of_ble_eq_true rfl⟩, rfl, hts _ q103⟩ ⟨fun a U g mk q => by obtain ⟨q0, q1, qP, qK, qD⟩ := q; exact ⟨q0, q1, qP, qK.call, qD⟩, fun U hU hW => ⟨rfl, by rw [hU], by rw [hU]; exact hPc, hK.warm hW, hDc.weaken (fun _ _ _ _ => trivial)⟩⟩ rfl rfl hl.1 rfl (lv_room (Nat.le_of_ble_eq_true rfl)) dX5_init_1 ⟨Nat.le_of_ble_eq_true rfl, Nat.le_of_ble_eq_true rfl⟩) hS (fun q _ h => hFc q h) hFc (fun u_1 t H1 locs ht hvm _ hB hz1 hk1 hS => ?_)
  obtain ⟨hP1, hD1⟩ := hB
  rw [ht] at hP1
  obtain ⟨hP, hD⟩ := va_join (wr := []) (w1 := [oc h 5 []]) hP hD [0] [] rfl rfl (by decide) (by decide) hk1 hFc hP1 hD1
  clear hPc hDc hFc hP1 hD1 hz1 hk1 hvm
  generalize H1 = H at hP hS ⊢
  have hP : va_P G.1 gCl [oc h 5 []] H := hP
  have hD : va_D A [oc h 5 []] := hD
  exact W.vret hx hb hr (fun t ht hW => ⟨⟨fun k => ([] : List Nat).getD k 0, rfl, trivial, by rw [ht]; exact hP, hD⟩, hS.F ht⟩) hS.2.2 dX5_init_4
/-! java/lang/Throwable.<init> -/
def ini_J0_init_2_7 (G : GT) (h : Nat) (u : Nat → Nat) : va_W := [oc h 7 [.null, .null, .null, .null, .null, .int (0 : Int32), .int (0 : Int32)]]
set_option maxHeartbeats 8000000 in
theorem mt_J0_init_2_7 (l : Launch) (G : GT) (aS : Nat) (h sz : Nat) : Met l yJ0_init_2 (ws_ yJ0_init_2 cJ0_init_2 5 none) ({ frames := 1, cells := 0, slots := 0, locals := 64 } : Room) (va_Pc [.ref h, .null, .null, .int (0 : Int32), .int (0 : Int32)] (fun U => U.heap.size = sz ∧ va_P G.1 gCl [oc h 7 [.null, .null, .null, .null, .null, .int (0 : Int32), .int (0 : Int32)]] U.heap ∧ gK G U ∧ va_D (fun _ => True) [oc h 7 [.null, .null, .null, .null, .null, .int (0 : Int32), .int (0 : Int32)]] ∧ stS aS U)) ((fun A => va_Qv (fun (_ : Nat → Nat) => True) (fun u t => va_P G.1 gCl (ini_J0_init_2_7 G h u) t.heap ∧ va_D A (ini_J0_init_2_7 G h u)) A) (va_A [oc h 7 [.null, .null, .null, .null, .null, .int (0 : Int32), .int (0 : Int32)]] sz)) 0 0 (va_A [oc h 7 [.null, .null, .null, .null, .null, .int (0 : Int32), .int (0 : Int32)]] sz) := by
  refine Met.ofW (cc := cJ0_init_2) (maxL := 5) (ret := none) (by decide) rfl ?_
  intro p e s m args below meth c s₁ B hml hv
  obtain ⟨rfl, hsz, hP, hK, hD0, hst⟩ := hv
  have hx := B.exec
  have hb := B.bytes
  have hr := B.returns
  have hts := atoms_spec (ws := (ws_ yJ0_init_2 cJ0_init_2 5 none)) B.pre
  have hts : ∀ w ∈ lw_all, w.before _ s = true := fun w h => hts w (List.mem_cons_of_mem _ h)
  have hown : s.vm.findClass RJ0 = some m.cls := findClass_of_methodNamed B.named
  have hlocks := B.notSynchronized
  have hin : meth.name = "<init>" := (name_of_methodNamed B.named B.method).1
  subst hsz
  have hD := hD0.self (sz := s.heap.size)
  generalize hAe : va_A [oc h 7 [.null, .null, .null, .null, .null, .int (0 : Int32), .int (0 : Int32)]] s.heap.size = A at hD ⊢
  have hA : ∀ q : Nat, s.heap.size ≤ q → A q := fun q h => by rw [← hAe]; exact Or.inr h
  have hS : va_S A s.heap s.heap [] := va_S.rf
  have hns : ∀ (q : Nat) (cell : Cell), A q → s.heap[q]? = some cell → cell.vm.isStatics = false := fun q cell hq hc => va_A.ns hP (by rw [hAe]; exact hq) hc
  have hl := lv_entry ([.ref h, .null, .null, .int (0 : Int32), .int (0 : Int32)]) (n := 5) (Nat.le_of_ble_eq_true rfl)
  rw [lg_entry_eq]
  generalize (lg_sl ([.ref h, .null, .null, .int (0 : Int32), .int (0 : Int32)]) ++ List.replicate (5 - (lg_sl ([.ref h, .null, .null, .int (0 : Int32), .int (0 : Int32)])).length) Slot.unset).toArray = ls at hl ⊢
  have hl : lv_has ls 5 [(0, .ref h), (1, .null), (2, .null), (3, .int (0 : Int32)), (4, .int (0 : Int32))] := hl
  refine lv_aload_n hx hb dJ0_init_2_0 rfl (lv_at hl 0 rfl) ?_
  refine W.objInit hx hb hown (hts _ q185) (hts _ q83) (hts _ q84) rfl (by rw [hml]; exact hl.1) rfl dJ0_init_2_1 (Nat.le_of_ble_eq_true rfl) (Nat.le_of_ble_eq_true rfl) ?_
  show W _ _ _ _ _ _ _ _ _ _ _ _ _ _ _ (F0 m 4 ls [])
  refine lv_aload_n hx hb dJ0_init_2_4 rfl (lv_at hl 0 rfl) ?_
  refine lv_aload_n hx hb dJ0_init_2_5 rfl (lv_at hl 0 rfl) ?_
  refine va_put (D := G.1) (ci := 7) (v := .ref h) (ty := (.object "java/lang/Throwable")) (C := RX7) (T := TX7) (N := 7) hx hb hts in_X7 tyX7 tyX7_ok nmX7 hown hK.1 hP hD hS 0 rfl rfl 0 (by decide) (hts _ q229) (fun _ h9 => h9) rfl (by decide +kernel) rfl rfl (Nat.le_of_ble_eq_true rfl) dJ0_init_2_6 (fun H locs hP hD hS => ?_)
  have hP : va_P G.1 gCl [oc h 7 [.ref h, .null, .null, .null, .null, .int (0 : Int32), .int (0 : Int32)]] H := hP
  have hD : va_D A [oc h 7 [.ref h, .null, .null, .null, .null, .int (0 : Int32), .int (0 : Int32)]] := hD
  refine lv_aload_n hx hb dJ0_init_2_9 rfl (lv_at hl 0 rfl) ?_
  obtain ⟨w_1, ew_1, hZw_1⟩ := (stS.Z hst (nw_of hts q61) hns).1
  refine va_gets hx hb hZw_1 hS hown (hts _ q186) (fun _ h9 => h9) dJ0_init_2_10 ?_
  refine va_put (D := G.1) (ci := 7) (v := w_1) (ty := (.array (.object "java/lang/StackTraceElement"))) (C := RX7) (T := TX7) (N := 7) hx hb hts in_X7 tyX7 tyX7_ok nmX7 hown hK.1 hP hD hS 0 rfl rfl 1 (by decide) (hts _ q230) (fun _ h9 => h9) rfl (by decide +kernel) (z_narR ew_1) (z_fitR ew_1) (Nat.le_of_ble_eq_true rfl) dJ0_init_2_13 (fun H locs hP hD hS => ?_)
  have hP : va_P G.1 gCl [oc h 7 [.ref h, w_1, .null, .null, .null, .int (0 : Int32), .int (0 : Int32)]] H := hP
  have hD : va_D A [oc h 7 [.ref h, w_1, .null, .null, .null, .int (0 : Int32), .int (0 : Int32)]] := hD
  refine lv_aload_n hx hb dJ0_init_2_16 rfl (lv_at hl 0 rfl) ?_
  obtain ⟨w_2, ew_2, hZw_2⟩ := (stS.Z hst (nw_of hts q61) hns).2
  refine va_gets hx hb hZw_2 hS hown (hts _ q188) (fun _ h9 => h9) dJ0_init_2_17 ?_
  refine va_put (D := G.1) (ci := 7) (v := w_2) (ty := (.object "java/util/List")) (C := RX7) (T := TX7) (N := 7) hx hb hts in_X7 tyX7 tyX7_ok nmX7 hown hK.1 hP hD hS 0 rfl rfl 2 (by decide) (hts _ q231) (fun _ h9 => h9) rfl (by decide +kernel) (z_narR ew_2) (z_fitR ew_2) (Nat.le_of_ble_eq_true rfl) dJ0_init_2_20 (fun H locs hP hD hS => ?_)
  have hP : va_P G.1 gCl [oc h 7 [.ref h, w_1, w_2, .null, .null, .int (0 : Int32), .int (0 : Int32)]] H := hP
  have hD : va_D A [oc h 7 [.ref h, w_1, w_2, .null, .null, .int (0 : Int32), .int (0 : Int32)]] := hD
  refine lv_iload hx hb dJ0_init_2_23 (lv_at hl 4 rfl) ?_
  refine lv_if_eq (tgt := 36) hx hb dJ0_init_2_25 (by decide) (fun _ => ?_) (fun c_3 => absurd (by decide) c_3)
  refine lv_aload_n hx hb dJ0_init_2_36 rfl (lv_at hl 0 rfl) ?_
  refine lv_null hx hb dJ0_init_2_37 ?_
  refine va_put (D := G.1) (ci := 7) (v := .null) (ty := (.array (.object "java/lang/StackTraceElement"))) (C := RX7) (T := TX7) (N := 7) hx hb hts in_X7 tyX7 tyX7_ok nmX7 hown hK.1 hP hD hS 0 rfl rfl 1 (by decide) (hts _ q230) (fun _ h9 => h9) rfl (by decide +kernel) rfl rfl (Nat.le_of_ble_eq_true rfl) dJ0_init_2_38 (fun H locs hP hD hS => ?_)
  have hP : va_P G.1 gCl [oc h 7 [.ref h, .null, w_2, .null, .null, .int (0 : Int32), .int (0 : Int32)]] H := hP
  have hD : va_D A [oc h 7 [.ref h, .null, w_2, .null, .null, .int (0 : Int32), .int (0 : Int32)]] := hD
  refine lv_aload_n hx hb dJ0_init_2_41 rfl (lv_at hl 0 rfl) ?_
  refine lv_aload_nN hx hb dJ0_init_2_42 rfl (lv_at hl 1 rfl) ?_
  refine va_put (D := G.1) (ci := 7) (v := .null) (ty := (.object "java/lang/String")) (C := RX7) (T := TX7) (N := 7) hx hb hts in_X7 tyX7 tyX7_ok nmX7 hown hK.1 hP hD hS 0 rfl rfl 3 (by decide) (hts _ q228) (fun _ h9 => h9) rfl (by decide +kernel) rfl rfl (Nat.le_of_ble_eq_true rfl) dJ0_init_2_43 (fun H locs hP hD hS => ?_)
  have hP : va_P G.1 gCl [oc h 7 [.ref h, .null, w_2, .null, .null, .int (0 : Int32), .int (0 : Int32)]] H := hP
  have hD : va_D A [oc h 7 [.ref h, .null, w_2, .null, .null, .int (0 : Int32), .int (0 : Int32)]] := hD
  refine lv_aload_n hx hb dJ0_init_2_46 rfl (lv_at hl 0 rfl) ?_
  refine lv_aload_nN hx hb dJ0_init_2_47 rfl (lv_at hl 2 rfl) ?_
  refine va_put (D := G.1) (ci := 7) (v := .null) (ty := (.object "java/lang/Throwable")) (C := RX7) (T := TX7) (N := 7) hx hb hts in_X7 tyX7 tyX7_ok nmX7 hown hK.1 hP hD hS 0 rfl rfl 0 (by decide) (hts _ q229) (fun _ h9 => h9) rfl (by decide +kernel) rfl rfl (Nat.le_of_ble_eq_true rfl) dJ0_init_2_48 (fun H locs hP hD hS => ?_)
  have hP : va_P G.1 gCl [oc h 7 [.null, .null, w_2, .null, .null, .int (0 : Int32), .int (0 : Int32)]] H := hP
  have hD : va_D A [oc h 7 [.null, .null, w_2, .null, .null, .int (0 : Int32), .int (0 : Int32)]] := hD
  refine lv_iload_n hx hb dJ0_init_2_51 rfl (lv_at hl 3 rfl) ?_
  refine lv_if_ne (tgt := 60) hx hb dJ0_init_2_52 (by decide) (fun c_4 => absurd (by decide) c_4) (fun _ => ?_)
  refine lv_aload_n hx hb dJ0_init_2_55 rfl (lv_at hl 0 rfl) ?_
  refine lv_null hx hb dJ0_init_2_56 ?_
  refine va_put (D := G.1) (ci := 7) (v := .null) (ty := (.object "java/util/List")) (C := RX7) (T := TX7) (N := 7) hx hb hts in_X7 tyX7 tyX7_ok nmX7 hown hK.1 hP hD hS 0 rfl rfl 2 (by decide) (hts _ q231) (fun _ h9 => h9) rfl (by decide +kernel) rfl rfl (Nat.le_of_ble_eq_true rfl) dJ0_init_2_57 (fun H locs hP hD hS => ?_)
  have hP : va_P G.1 gCl [oc h 7 [.null, .null, .null, .null, .null, .int (0 : Int32), .int (0 : Int32)]] H := hP
  have hD : va_D A [oc h 7 [.null, .null, .null, .null, .null, .int (0 : Int32), .int (0 : Int32)]] := hD
  exact W.vret hx hb hr (fun t ht hW => ⟨⟨fun k => ([] : List Nat).getD k 0, rfl, trivial, by rw [ht]; exact hP, hD⟩, hS.F ht⟩) hS.2.2 dJ0_init_2_60
/-! java/lang/Exception.<init> -/
def ini_J1_init_7 (G : GT) (h : Nat) (u : Nat → Nat) : va_W := [oc h 7 [.null, .null, .null, .null, .null, .int (0 : Int32), .int (0 : Int32)]]
set_option maxHeartbeats 8000000 in
theorem mt_J1_init_7 (l : Launch) (G : GT) (aS : Nat) (h sz : Nat) : Met l yJ1_init (ws_ yJ1_init cJ1_init 5 none) ({ frames := 2, cells := 0, slots := 0, locals := 88 } : Room) (va_Pc [.ref h, .null, .null, .int (0 : Int32), .int (0 : Int32)] (fun U => U.heap.size = sz ∧ va_P G.1 gCl [oc h 7 [.null, .null, .null, .null, .null, .int (0 : Int32), .int (0 : Int32)]] U.heap ∧ gK G U ∧ va_D (fun _ => True) [oc h 7 [.null, .null, .null, .null, .null, .int (0 : Int32), .int (0 : Int32)]] ∧ stS aS U)) ((fun A => va_Qv (fun (_ : Nat → Nat) => True) (fun u t => va_P G.1 gCl (ini_J1_init_7 G h u) t.heap ∧ va_D A (ini_J1_init_7 G h u)) A) (va_A [oc h 7 [.null, .null, .null, .null, .null, .int (0 : Int32), .int (0 : Int32)]] sz)) 0 0 (va_A [oc h 7 [.null, .null, .null, .null, .null, .int (0 : Int32), .int (0 : Int32)]] sz) := by
  refine Met.ofW (cc := cJ1_init) (maxL := 5) (ret := none) (by decide) rfl ?_
  intro p e s m args below meth c s₁ B hml hv
  obtain ⟨rfl, hsz, hP, hK, hD0, hst⟩ := hv
  have hx := B.exec
  have hb := B.bytes
  have hr := B.returns
  have hts := atoms_spec (ws := (ws_ yJ1_init cJ1_init 5 none)) B.pre
  have hts : ∀ w ∈ lw_all, w.before _ s = true := fun w h => hts w (List.mem_cons_of_mem _ h)
  have hown : s.vm.findClass RJ1 = some m.cls := findClass_of_methodNamed B.named
  have hlocks := B.notSynchronized
  have hin : meth.name = "<init>" := (name_of_methodNamed B.named B.method).1
  subst hsz
  have hD := hD0.self (sz := s.heap.size)
  generalize hAe : va_A [oc h 7 [.null, .null, .null, .null, .null, .int (0 : Int32), .int (0 : Int32)]] s.heap.size = A at hD ⊢
  have hA : ∀ q : Nat, s.heap.size ≤ q → A q := fun q h => by rw [← hAe]; exact Or.inr h
  have hS : va_S A s.heap s.heap [] := va_S.rf
  have hns : ∀ (q : Nat) (cell : Cell), A q → s.heap[q]? = some cell → cell.vm.isStatics = false := fun q cell hq hc => va_A.ns hP (by rw [hAe]; exact hq) hc
  have hl := lv_entry ([.ref h, .null, .null, .int (0 : Int32), .int (0 : Int32)]) (n := 5) (Nat.le_of_ble_eq_true rfl)
  rw [lg_entry_eq]
  generalize (lg_sl ([.ref h, .null, .null, .int (0 : Int32), .int (0 : Int32)]) ++ List.replicate (5 - (lg_sl ([.ref h, .null, .null, .int (0 : Int32), .int (0 : Int32)])).length) Slot.unset).toArray = ls at hl ⊢
  have hl : lv_has ls 5 [(0, .ref h), (1, .null), (2, .null), (3, .int (0 : Int32)), (4, .int (0 : Int32))] := hl
  refine lv_aload_n hx hb dJ1_init_0 rfl (lv_at hl 0 rfl) ?_
  refine lv_aload_nN hx hb dJ1_init_1 rfl (lv_at hl 1 rfl) ?_
  refine lv_aload_nN hx hb dJ1_init_2 rfl (lv_at hl 2 rfl) ?_
  refine lv_iload_n hx hb dJ1_init_3 rfl (lv_at hl 3 rfl) ?_
  refine lv_iload hx hb dJ1_init_4 (lv_at hl 4 rfl) ?_
  have hPc := hP.sub (ws' := [oc h 7 [.null, .null, .null, .null, .null, .int (0 : Int32), .int (0 : Int32)]]) [0] rfl
  have hDc := hD.sub (ws' := [oc h 7 [.null, .null, .null, .null, .null, .int (0 : Int32), .int (0 : Int32)]]) [0] (by decide) rfl
  have hFc := va_free (wc := [oc h 7 [.null, .null, .null, .null, .null, .int (0 : Int32), .int (0 : Int32)]]) hD hS hA [0] rfl
  refine va_callv (va_runI (As := [.null, .null, .int (0 : Int32), .int (0 : Int32)]) (rest := []) ⟨hx, hb, hml, hown, hts⟩ (mt_J0_init_2_7 l G aS h s.heap.size) (cwI 4 hts (lw_meth q225) rfl rfl rfl (hts _ q61) (hts _ q223) (hts _ q224) rfl (by decide +kernel) ⟨Nat.le_of_ble_eq_true rfl, Nat.le_of_ble_eq_true rfl⟩) ⟨fun a U g mk q => by obtain ⟨q0, q1, qP, qK, qD, qS⟩ := q; exact ⟨q0, q1, qP, qK.call, qD, stS.moved (u := U) (U := U.calling g mk a) (Vm.Alike.refl U.vm) rfl qS⟩, fun U hU hW => ⟨rfl, by rw [hU], by rw [hU]; exact hPc, hK.warm hW, hDc.weaken (fun _ _ _ _ => trivial), stS.at2 hst hns hS hU hW⟩⟩ rfl rfl hl.1 rfl (lv_room (Nat.le_of_ble_eq_true rfl)) dJ1_init_6 ⟨Nat.le_of_ble_eq_true rfl, Nat.le_of_ble_eq_true rfl⟩) hS (fun q _ h => hFc q h) hFc (fun u_1 t H1 locs ht hvm _ hB hz1 hk1 hS => ?_)
  obtain ⟨hP1, hD1⟩ := hB
  rw [ht] at hP1
  obtain ⟨hP, hD⟩ := va_join (wr := []) (w1 := [oc h 7 [.null, .null, .null, .null, .null, .int (0 : Int32), .int (0 : Int32)]]) hP hD [0] [] rfl rfl (by decide) (by decide) hk1 hFc hP1 hD1
  clear hPc hDc hFc hP1 hD1 hz1 hk1 hvm
  generalize H1 = H at hP hS ⊢
  have hP : va_P G.1 gCl [oc h 7 [.null, .null, .null, .null, .null, .int (0 : Int32), .int (0 : Int32)]] H := hP
  have hD : va_D A [oc h 7 [.null, .null, .null, .null, .null, .int (0 : Int32), .int (0 : Int32)]] := hD
  exact W.vret hx hb hr (fun t ht hW => ⟨⟨fun k => ([] : List Nat).getD k 0, rfl, trivial, by rw [ht]; exact hP, hD⟩, hS.F ht⟩) hS.2.2 dJ1_init_9
/-! BattleBench$Fault.<init> -/
def ini_X7_init (G : GT) (h : Nat) (u : Nat → Nat) : va_W := [oc h 7 [.null, .null, .null, .null, .null, .int (0 : Int32), .int (0 : Int32)]]
set_option maxHeartbeats 8000000 in
theorem mt_X7_init (l : Launch) (G : GT) (aS : Nat) (h sz : Nat) : Met l yX7_init (ws_ yX7_init cX7_init 1 none) ({ frames := 3, cells := 0, slots := 0, locals := 112 } : Room) (va_Pc [.ref h] (fun U => U.heap.size = sz ∧ va_P G.1 gCl [oc h 7 [.null, .null, .null, .null, .null, .int (0 : Int32), .int (0 : Int32)]] U.heap ∧ gK G U ∧ va_D (fun _ => True) [oc h 7 [.null, .null, .null, .null, .null, .int (0 : Int32), .int (0 : Int32)]] ∧ stS aS U)) ((fun A => va_Qv (fun (_ : Nat → Nat) => True) (fun u t => va_P G.1 gCl (ini_X7_init G h u) t.heap ∧ va_D A (ini_X7_init G h u)) A) (va_A [oc h 7 [.null, .null, .null, .null, .null, .int (0 : Int32), .int (0 : Int32)]] sz)) 0 0 (va_A [oc h 7 [.null, .null, .null, .null, .null, .int (0 : Int32), .int (0 : Int32)]] sz) := by
  refine Met.ofW (cc := cX7_init) (maxL := 1) (ret := none) (by decide) rfl ?_
  intro p e s m args below meth c s₁ B hml hv
  obtain ⟨rfl, hsz, hP, hK, hD0, hst⟩ := hv
  have hx := B.exec
  have hb := B.bytes
  have hr := B.returns
  have hts := atoms_spec (ws := (ws_ yX7_init cX7_init 1 none)) B.pre
  have hts : ∀ w ∈ lw_all, w.before _ s = true := fun w h => hts w (List.mem_cons_of_mem _ h)
  have hown : s.vm.findClass RX7 = some m.cls := findClass_of_methodNamed B.named
  have hlocks := B.notSynchronized
  have hin : meth.name = "<init>" := (name_of_methodNamed B.named B.method).1
  subst hsz
  have hD := hD0.self (sz := s.heap.size)
  generalize hAe : va_A [oc h 7 [.null, .null, .null, .null, .null, .int (0 : Int32), .int (0 : Int32)]] s.heap.size = A at hD ⊢
  have hA : ∀ q : Nat, s.heap.size ≤ q → A q := fun q h => by rw [← hAe]; exact Or.inr h
  have hS : va_S A s.heap s.heap [] := va_S.rf
  have hns : ∀ (q : Nat) (cell : Cell), A q → s.heap[q]? = some cell → cell.vm.isStatics = false := fun q cell hq hc => va_A.ns hP (by rw [hAe]; exact hq) hc
  have hl := lv_entry ([.ref h]) (n := 1) (Nat.le_of_ble_eq_true rfl)
  rw [lg_entry_eq]
  generalize (lg_sl ([.ref h]) ++ List.replicate (1 - (lg_sl ([.ref h])).length) Slot.unset).toArray = ls at hl ⊢
  have hl : lv_has ls 1 [(0, .ref h)] := hl
  refine lv_aload_n hx hb dX7_init_0 rfl (lv_at hl 0 rfl) ?_
  refine lv_null hx hb dX7_init_1 ?_
  refine lv_null hx hb dX7_init_2 ?_
  refine lv_iconst (v := (0 : Int32)) hx hb dX7_init_3 (by decide) ?_
  refine lv_iconst (v := (0 : Int32)) hx hb dX7_init_4 (by decide) ?_
  have hPc := hP.sub (ws' := [oc h 7 [.null, .null, .null, .null, .null, .int (0 : Int32), .int (0 : Int32)]]) [0] rfl
  have hDc := hD.sub (ws' := [oc h 7 [.null, .null, .null, .null, .null, .int (0 : Int32), .int (0 : Int32)]]) [0] (by decide) rfl
  have hFc := va_free (wc := [oc h 7 [.null, .null, .null, .null, .null, .int (0 : Int32), .int (0 : Int32)]]) hD hS hA [0] rfl
  refine va_callv (va_runI (As := [.null, .null, .int (0 : Int32), .int (0 : Int32)]) (rest := []) ⟨hx, hb, hml, hown, hts⟩ (mt_J1_init_7 l G aS h s.heap.size) (cwI 4 hts (lw_meth q222) rfl rfl rfl (hts _ q62) (hts _ q220) (hts _ q221) rfl (by decide +kernel) ⟨Nat.le_of_ble_eq_true rfl, Nat.le_of_ble_eq_true rfl⟩) ⟨fun a U g mk q => by obtain ⟨q0, q1, qP, qK, qD, qS⟩ := q; exact ⟨q0, q1, qP, qK.call, qD, stS.moved (u := U) (U := U.calling g mk a) (Vm.Alike.refl U.vm) rfl qS⟩, fun U hU hW => ⟨rfl, by rw [hU], by rw [hU]; exact hPc, hK.warm hW, hDc.weaken (fun _ _ _ _ => trivial), stS.at2 hst hns hS hU hW⟩⟩ rfl rfl hl.1 rfl (lv_room (Nat.le_of_ble_eq_true rfl)) dX7_init_5 ⟨Nat.le_of_ble_eq_true rfl, Nat.le_of_ble_eq_true rfl⟩) hS (fun q _ h => hFc q h) hFc (fun u_1 t H1 locs ht hvm _ hB hz1 hk1 hS => ?_)
  obtain ⟨hP1, hD1⟩ := hB
  rw [ht] at hP1
  obtain ⟨hP, hD⟩ := va_join (wr := []) (w1 := [oc h 7 [.null, .null, .null, .null, .null, .int (0 : Int32), .int (0 : Int32)]]) hP hD [0] [] rfl rfl (by decide) (by decide) hk1 hFc hP1 hD1
  clear hPc hDc hFc hP1 hD1 hz1 hk1 hvm
  generalize H1 = H at hP hS ⊢
  have hP : va_P G.1 gCl [oc h 7 [.null, .null, .null, .null, .null, .int (0 : Int32), .int (0 : Int32)]] H := hP
  have hD : va_D A [oc h 7 [.null, .null, .null, .null, .null, .int (0 : Int32), .int (0 : Int32)]] := hD
  exact W.vret hx hb hr (fun t ht hW => ⟨⟨fun k => ([] : List Nat).getD k 0, rfl, trivial, by rw [ht]; exact hP, hD⟩, hS.F ht⟩) hS.2.2 dX7_init_8
/-! BattleBenchModel.<init> -/
def ini_X9_init (G : GT) (h : Nat) (u : Nat → Nat) : va_W := [oc h 9 [.ref (u 0), .ref (u 1), .int (0 : Int32), .ref (u 2), .int (0 : Int32), .ref (u 3), .int (0 : Int32), .ref (u 4), .ref (u 5), .ref (u 6), .ref (u 7), .ref (u 8), .ref (u 9), .ref (u 10)], ai G (u 0) 161 (upd (fun _ => 0) 3 (1 : Int32)), ai G (u 1) 161 (fun _ => 0), ai G (u 2) 70 (fun _ => 0), ai G (u 3) 40 (fun _ => 0), al G (u 4) 96 (fun _ => 0), al G (u 5) 24 (fun _ => 0), ai G (u 6) 4 (upd (upd (upd (upd (fun _ => 0) 0 (-1 : Int32)) 1 (-1 : Int32)) 2 (-1 : Int32)) 3 (-1 : Int32)), ai G (u 7) 4 (fun _ => 0), ai G (u 8) 6 (fun _ => 0), ai G (u 9) 40 (fun _ => 0), ai G (u 10) 40 (fun _ => 0)]
set_option maxHeartbeats 8000000 in
theorem mt_X9_init (l : Launch) (G : GT) (h sz : Nat) : Met l yX9_init (ws_ yX9_init cX9_init 2 none) ({ frames := 1, cells := 11, slots := 646, locals := 64 } : Room) (va_Pc [.ref h] (fun U => U.heap.size = sz ∧ va_P G.1 gCl [oc h 9 [.null, .null, .int (0 : Int32), .null, .int (0 : Int32), .null, .int (0 : Int32), .null, .null, .null, .null, .null, .null, .null]] U.heap ∧ gK G U ∧ va_D (fun _ => True) [oc h 9 [.null, .null, .int (0 : Int32), .null, .int (0 : Int32), .null, .int (0 : Int32), .null, .null, .null, .null, .null, .null, .null]])) ((fun A => va_Qv (fun (_ : Nat → Nat) => True) (fun u t => va_P G.1 gCl (ini_X9_init G h u) t.heap ∧ va_D A (ini_X9_init G h u)) A) (va_A [oc h 9 [.null, .null, .int (0 : Int32), .null, .int (0 : Int32), .null, .int (0 : Int32), .null, .null, .null, .null, .null, .null, .null]] sz)) 11 646 (va_A [oc h 9 [.null, .null, .int (0 : Int32), .null, .int (0 : Int32), .null, .int (0 : Int32), .null, .null, .null, .null, .null, .null, .null]] sz) := by
  refine Met.ofW (cc := cX9_init) (maxL := 2) (ret := none) (by decide) rfl ?_
  intro p e s m args below meth c s₁ B hml hv
  obtain ⟨rfl, hsz, hP, hK, hD0⟩ := hv
  have hx := B.exec
  have hb := B.bytes
  have hr := B.returns
  have hts := atoms_spec (ws := (ws_ yX9_init cX9_init 2 none)) B.pre
  have hts : ∀ w ∈ lw_all, w.before _ s = true := fun w h => hts w (List.mem_cons_of_mem _ h)
  have hown : s.vm.findClass RX9 = some m.cls := findClass_of_methodNamed B.named
  have hlocks := B.notSynchronized
  have hin : meth.name = "<init>" := (name_of_methodNamed B.named B.method).1
  subst hsz
  have hD := hD0.self (sz := s.heap.size)
  generalize hAe : va_A [oc h 9 [.null, .null, .int (0 : Int32), .null, .int (0 : Int32), .null, .int (0 : Int32), .null, .null, .null, .null, .null, .null, .null]] s.heap.size = A at hD ⊢
  have hA : ∀ q : Nat, s.heap.size ≤ q → A q := fun q h => by rw [← hAe]; exact Or.inr h
  have hS : va_S A s.heap s.heap [] := va_S.rf
  have hl := lv_entry ([.ref h]) (n := 2) (Nat.le_of_ble_eq_true rfl)
  rw [lg_entry_eq]
  generalize (lg_sl ([.ref h]) ++ List.replicate (2 - (lg_sl ([.ref h])).length) Slot.unset).toArray = ls at hl ⊢
  have hl : lv_has ls 2 [(0, .ref h)] := hl
  refine lv_aload_n hx hb dX9_init_0 rfl (lv_at hl 0 rfl) ?_
  refine W.objInit hx hb hown (hts _ q816) (hts _ q83) (hts _ q84) rfl (by rw [hml]; exact hl.1) rfl dX9_init_1 (Nat.le_of_ble_eq_true rfl) (Nat.le_of_ble_eq_true rfl) ?_
  show W _ _ _ _ _ _ _ _ _ _ _ _ _ _ _ (F0 m 4 ls [])
  refine lv_aload_n hx hb dX9_init_4 rfl (lv_at hl 0 rfl) ?_
  refine lv_sipush (v := (161 : Int32)) hx hb dX9_init_5 (by decide) ?_
  refine va_newa (atype := .int) hx hb (hts _ q161) (ty := .int) rfl hK.1 hP hD hS hA (N' := 161) (a0 := (161, .inl (fun _ => 0))) (fun _ => rfl) (by decide) (by decide) (by decide) (Nat.le_of_ble_eq_true rfl) (Nat.le_of_ble_eq_true rfl) dX9_init_8 (fun q_1 cA H hK1 hP hD hS => ?_)
  cases x_same hK.1 hK1 0 rfl
  have hP : va_P G.1 gCl [oc h 9 [.null, .null, .int (0 : Int32), .null, .int (0 : Int32), .null, .int (0 : Int32), .null, .null, .null, .null, .null, .null, .null], ai G q_1 161 (fun _ => 0)] H := hP
  have hD : va_D A [oc h 9 [.null, .null, .int (0 : Int32), .null, .int (0 : Int32), .null, .int (0 : Int32), .null, .null, .null, .null, .null, .null, .null], ai G q_1 161 (fun _ => 0)] := hD
  refine va_putF (D := G.1) (ci := 9) (v := .ref q_1) (ty := (.array .int)) (C := RX9) (T := TX9) (N := 14) hx hb hts in_X9 tyX9 tyX9_ok nmX9 hown hK.1 hP hD hS 0 rfl rfl 0 (by decide) (hts _ q817) (fun _ h9 => h9) rfl hin rfl (by decide +kernel) rfl rfl (Nat.le_of_ble_eq_true rfl) dX9_init_10 (fun H locs hP hD hS => ?_)
  have hP : va_P G.1 gCl [oc h 9 [.ref q_1, .null, .int (0 : Int32), .null, .int (0 : Int32), .null, .int (0 : Int32), .null, .null, .null, .null, .null, .null, .null], ai G q_1 161 (fun _ => 0)] H := hP
  have hD : va_D A [oc h 9 [.ref q_1, .null, .int (0 : Int32), .null, .int (0 : Int32), .null, .int (0 : Int32), .null, .null, .null, .null, .null, .null, .null], ai G q_1 161 (fun _ => 0)] := hD
  refine lv_aload_n hx hb dX9_init_13 rfl (lv_at hl 0 rfl) ?_
  refine lv_sipush (v := (161 : Int32)) hx hb dX9_init_14 (by decide) ?_
  refine va_newa (atype := .int) hx hb (hts _ q161) (ty := .int) rfl hK.1 hP hD hS hA (N' := 161) (a0 := (161, .inl (fun _ => 0))) (fun _ => rfl) (by decide) (by decide) (by decide) (Nat.le_of_ble_eq_true rfl) (Nat.le_of_ble_eq_true rfl) dX9_init_17 (fun q_2 cA H hK1 hP hD hS => ?_)
  cases x_same hK.1 hK1 0 rfl
  have hP : va_P G.1 gCl [oc h 9 [.ref q_1, .null, .int (0 : Int32), .null, .int (0 : Int32), .null, .int (0 : Int32), .null, .null, .null, .null, .null, .null, .null], ai G q_1 161 (fun _ => 0), ai G q_2 161 (fun _ => 0)] H := hP
  have hD : va_D A [oc h 9 [.ref q_1, .null, .int (0 : Int32), .null, .int (0 : Int32), .null, .int (0 : Int32), .null, .null, .null, .null, .null, .null, .null], ai G q_1 161 (fun _ => 0), ai G q_2 161 (fun _ => 0)] := hD
  refine va_putF (D := G.1) (ci := 9) (v := .ref q_2) (ty := (.array .int)) (C := RX9) (T := TX9) (N := 14) hx hb hts in_X9 tyX9 tyX9_ok nmX9 hown hK.1 hP hD hS 0 rfl rfl 1 (by decide) (hts _ q818) (fun _ h9 => h9) rfl hin rfl (by decide +kernel) rfl rfl (Nat.le_of_ble_eq_true rfl) dX9_init_19 (fun H locs hP hD hS => ?_)
  have hP : va_P G.1 gCl [oc h 9 [.ref q_1, .ref q_2, .int (0 : Int32), .null, .int (0 : Int32), .null, .int (0 : Int32), .null, .null, .null, .null, .null, .null, .null], ai G q_1 161 (fun _ => 0), ai G q_2 161 (fun _ => 0)] H := hP
  have hD : va_D A [oc h 9 [.ref q_1, .ref q_2, .int (0 : Int32), .null, .int (0 : Int32), .null, .int (0 : Int32), .null, .null, .null, .null, .null, .null, .null], ai G q_1 161 (fun _ => 0), ai G q_2 161 (fun _ => 0)] := hD
  refine lv_aload_n hx hb dX9_init_22 rfl (lv_at hl 0 rfl) ?_
  refine lv_bipush (v := (70 : Int32)) hx hb dX9_init_23 (by decide) ?_
  refine va_newa (atype := .int) hx hb (hts _ q161) (ty := .int) rfl hK.1 hP hD hS hA (N' := 70) (a0 := (70, .inl (fun _ => 0))) (fun _ => rfl) (by decide) (by decide) (by decide) (Nat.le_of_ble_eq_true rfl) (Nat.le_of_ble_eq_true rfl) dX9_init_25 (fun q_3 cA H hK1 hP hD hS => ?_)
  cases x_same hK.1 hK1 0 rfl
  have hP : va_P G.1 gCl [oc h 9 [.ref q_1, .ref q_2, .int (0 : Int32), .null, .int (0 : Int32), .null, .int (0 : Int32), .null, .null, .null, .null, .null, .null, .null], ai G q_1 161 (fun _ => 0), ai G q_2 161 (fun _ => 0), ai G q_3 70 (fun _ => 0)] H := hP
  have hD : va_D A [oc h 9 [.ref q_1, .ref q_2, .int (0 : Int32), .null, .int (0 : Int32), .null, .int (0 : Int32), .null, .null, .null, .null, .null, .null, .null], ai G q_1 161 (fun _ => 0), ai G q_2 161 (fun _ => 0), ai G q_3 70 (fun _ => 0)] := hD
  refine va_putF (D := G.1) (ci := 9) (v := .ref q_3) (ty := (.array .int)) (C := RX9) (T := TX9) (N := 14) hx hb hts in_X9 tyX9 tyX9_ok nmX9 hown hK.1 hP hD hS 0 rfl rfl 3 (by decide) (hts _ q820) (fun _ h9 => h9) rfl hin rfl (by decide +kernel) rfl rfl (Nat.le_of_ble_eq_true rfl) dX9_init_27 (fun H locs hP hD hS => ?_)
  have hP : va_P G.1 gCl [oc h 9 [.ref q_1, .ref q_2, .int (0 : Int32), .ref q_3, .int (0 : Int32), .null, .int (0 : Int32), .null, .null, .null, .null, .null, .null, .null], ai G q_1 161 (fun _ => 0), ai G q_2 161 (fun _ => 0), ai G q_3 70 (fun _ => 0)] H := hP
  have hD : va_D A [oc h 9 [.ref q_1, .ref q_2, .int (0 : Int32), .ref q_3, .int (0 : Int32), .null, .int (0 : Int32), .null, .null, .null, .null, .null, .null, .null], ai G q_1 161 (fun _ => 0), ai G q_2 161 (fun _ => 0), ai G q_3 70 (fun _ => 0)] := hD
  refine lv_aload_n hx hb dX9_init_30 rfl (lv_at hl 0 rfl) ?_
  refine lv_bipush (v := (40 : Int32)) hx hb dX9_init_31 (by decide) ?_
  refine va_newa (atype := .int) hx hb (hts _ q161) (ty := .int) rfl hK.1 hP hD hS hA (N' := 40) (a0 := (40, .inl (fun _ => 0))) (fun _ => rfl) (by decide) (by decide) (by decide) (Nat.le_of_ble_eq_true rfl) (Nat.le_of_ble_eq_true rfl) dX9_init_33 (fun q_4 cA H hK1 hP hD hS => ?_)
  cases x_same hK.1 hK1 0 rfl
  have hP : va_P G.1 gCl [oc h 9 [.ref q_1, .ref q_2, .int (0 : Int32), .ref q_3, .int (0 : Int32), .null, .int (0 : Int32), .null, .null, .null, .null, .null, .null, .null], ai G q_1 161 (fun _ => 0), ai G q_2 161 (fun _ => 0), ai G q_3 70 (fun _ => 0), ai G q_4 40 (fun _ => 0)] H := hP
  have hD : va_D A [oc h 9 [.ref q_1, .ref q_2, .int (0 : Int32), .ref q_3, .int (0 : Int32), .null, .int (0 : Int32), .null, .null, .null, .null, .null, .null, .null], ai G q_1 161 (fun _ => 0), ai G q_2 161 (fun _ => 0), ai G q_3 70 (fun _ => 0), ai G q_4 40 (fun _ => 0)] := hD
  refine va_putF (D := G.1) (ci := 9) (v := .ref q_4) (ty := (.array .int)) (C := RX9) (T := TX9) (N := 14) hx hb hts in_X9 tyX9 tyX9_ok nmX9 hown hK.1 hP hD hS 0 rfl rfl 5 (by decide) (hts _ q822) (fun _ h9 => h9) rfl hin rfl (by decide +kernel) rfl rfl (Nat.le_of_ble_eq_true rfl) dX9_init_35 (fun H locs hP hD hS => ?_)
  have hP : va_P G.1 gCl [oc h 9 [.ref q_1, .ref q_2, .int (0 : Int32), .ref q_3, .int (0 : Int32), .ref q_4, .int (0 : Int32), .null, .null, .null, .null, .null, .null, .null], ai G q_1 161 (fun _ => 0), ai G q_2 161 (fun _ => 0), ai G q_3 70 (fun _ => 0), ai G q_4 40 (fun _ => 0)] H := hP
  have hD : va_D A [oc h 9 [.ref q_1, .ref q_2, .int (0 : Int32), .ref q_3, .int (0 : Int32), .ref q_4, .int (0 : Int32), .null, .null, .null, .null, .null, .null, .null], ai G q_1 161 (fun _ => 0), ai G q_2 161 (fun _ => 0), ai G q_3 70 (fun _ => 0), ai G q_4 40 (fun _ => 0)] := hD
  refine lv_aload_n hx hb dX9_init_38 rfl (lv_at hl 0 rfl) ?_
  refine lv_bipush (v := (96 : Int32)) hx hb dX9_init_39 (by decide) ?_
  refine va_newa (atype := .long) hx hb (hts _ q725) (ty := .long) rfl hK.1 hP hD hS hA (N' := 96) (a0 := (96, .inr (.inl (fun _ => 0)))) (fun _ => rfl) (by decide) (by decide) (by decide) (Nat.le_of_ble_eq_true rfl) (Nat.le_of_ble_eq_true rfl) dX9_init_41 (fun q_5 cA H hK1 hP hD hS => ?_)
  cases x_same hK.1 hK1 1 rfl
  have hP : va_P G.1 gCl [oc h 9 [.ref q_1, .ref q_2, .int (0 : Int32), .ref q_3, .int (0 : Int32), .ref q_4, .int (0 : Int32), .null, .null, .null, .null, .null, .null, .null], ai G q_1 161 (fun _ => 0), ai G q_2 161 (fun _ => 0), ai G q_3 70 (fun _ => 0), ai G q_4 40 (fun _ => 0), al G q_5 96 (fun _ => 0)] H := hP
  have hD : va_D A [oc h 9 [.ref q_1, .ref q_2, .int (0 : Int32), .ref q_3, .int (0 : Int32), .ref q_4, .int (0 : Int32), .null, .null, .null, .null, .null, .null, .null], ai G q_1 161 (fun _ => 0), ai G q_2 161 (fun _ => 0), ai G q_3 70 (fun _ => 0), ai G q_4 40 (fun _ => 0), al G q_5 96 (fun _ => 0)] := hD
  refine va_putF (D := G.1) (ci := 9) (v := .ref q_5) (ty := (.array .long)) (C := RX9) (T := TX9) (N := 14) hx hb hts in_X9 tyX9 tyX9_ok nmX9 hown hK.1 hP hD hS 0 rfl rfl 7 (by decide) (hts _ q824) (fun _ h9 => h9) rfl hin rfl (by decide +kernel) rfl rfl (Nat.le_of_ble_eq_true rfl) dX9_init_43 (fun H locs hP hD hS => ?_)
  have hP : va_P G.1 gCl [oc h 9 [.ref q_1, .ref q_2, .int (0 : Int32), .ref q_3, .int (0 : Int32), .ref q_4, .int (0 : Int32), .ref q_5, .null, .null, .null, .null, .null, .null], ai G q_1 161 (fun _ => 0), ai G q_2 161 (fun _ => 0), ai G q_3 70 (fun _ => 0), ai G q_4 40 (fun _ => 0), al G q_5 96 (fun _ => 0)] H := hP
  have hD : va_D A [oc h 9 [.ref q_1, .ref q_2, .int (0 : Int32), .ref q_3, .int (0 : Int32), .ref q_4, .int (0 : Int32), .ref q_5, .null, .null, .null, .null, .null, .null], ai G q_1 161 (fun _ => 0), ai G q_2 161 (fun _ => 0), ai G q_3 70 (fun _ => 0), ai G q_4 40 (fun _ => 0), al G q_5 96 (fun _ => 0)] := hD
  refine lv_aload_n hx hb dX9_init_46 rfl (lv_at hl 0 rfl) ?_
  refine lv_bipush (v := (24 : Int32)) hx hb dX9_init_47 (by decide) ?_
  refine va_newa (atype := .long) hx hb (hts _ q725) (ty := .long) rfl hK.1 hP hD hS hA (N' := 24) (a0 := (24, .inr (.inl (fun _ => 0)))) (fun _ => rfl) (by decide) (by decide) (by decide) (Nat.le_of_ble_eq_true rfl) (Nat.le_of_ble_eq_true rfl) dX9_init_49 (fun q_6 cA H hK1 hP hD hS => ?_)
  cases x_same hK.1 hK1 1 rfl
  have hP : va_P G.1 gCl [oc h 9 [.ref q_1, .ref q_2, .int (0 : Int32), .ref q_3, .int (0 : Int32), .ref q_4, .int (0 : Int32), .ref q_5, .null, .null, .null, .null, .null, .null], ai G q_1 161 (fun _ => 0), ai G q_2 161 (fun _ => 0), ai G q_3 70 (fun _ => 0), ai G q_4 40 (fun _ => 0), al G q_5 96 (fun _ => 0), al G q_6 24 (fun _ => 0)] H := hP
  have hD : va_D A [oc h 9 [.ref q_1, .ref q_2, .int (0 : Int32), .ref q_3, .int (0 : Int32), .ref q_4, .int (0 : Int32), .ref q_5, .null, .null, .null, .null, .null, .null], ai G q_1 161 (fun _ => 0), ai G q_2 161 (fun _ => 0), ai G q_3 70 (fun _ => 0), ai G q_4 40 (fun _ => 0), al G q_5 96 (fun _ => 0), al G q_6 24 (fun _ => 0)] := hD
  refine va_putF (D := G.1) (ci := 9) (v := .ref q_6) (ty := (.array .long)) (C := RX9) (T := TX9) (N := 14) hx hb hts in_X9 tyX9 tyX9_ok nmX9 hown hK.1 hP hD hS 0 rfl rfl 8 (by decide) (hts _ q825) (fun _ h9 => h9) rfl hin rfl (by decide +kernel) rfl rfl (Nat.le_of_ble_eq_true rfl) dX9_init_51 (fun H locs hP hD hS => ?_)
  have hP : va_P G.1 gCl [oc h 9 [.ref q_1, .ref q_2, .int (0 : Int32), .ref q_3, .int (0 : Int32), .ref q_4, .int (0 : Int32), .ref q_5, .ref q_6, .null, .null, .null, .null, .null], ai G q_1 161 (fun _ => 0), ai G q_2 161 (fun _ => 0), ai G q_3 70 (fun _ => 0), ai G q_4 40 (fun _ => 0), al G q_5 96 (fun _ => 0), al G q_6 24 (fun _ => 0)] H := hP
  have hD : va_D A [oc h 9 [.ref q_1, .ref q_2, .int (0 : Int32), .ref q_3, .int (0 : Int32), .ref q_4, .int (0 : Int32), .ref q_5, .ref q_6, .null, .null, .null, .null, .null], ai G q_1 161 (fun _ => 0), ai G q_2 161 (fun _ => 0), ai G q_3 70 (fun _ => 0), ai G q_4 40 (fun _ => 0), al G q_5 96 (fun _ => 0), al G q_6 24 (fun _ => 0)] := hD
  refine lv_aload_n hx hb dX9_init_54 rfl (lv_at hl 0 rfl) ?_
  refine lv_iconst (v := (4 : Int32)) hx hb dX9_init_55 (by decide) ?_
  refine va_newa (atype := .int) hx hb (hts _ q161) (ty := .int) rfl hK.1 hP hD hS hA (N' := 4) (a0 := (4, .inl (fun _ => 0))) (fun _ => rfl) (by decide) (by decide) (by decide) (Nat.le_of_ble_eq_true rfl) (Nat.le_of_ble_eq_true rfl) dX9_init_56 (fun q_7 cA H hK1 hP hD hS => ?_)
  cases x_same hK.1 hK1 0 rfl
  have hP : va_P G.1 gCl [oc h 9 [.ref q_1, .ref q_2, .int (0 : Int32), .ref q_3, .int (0 : Int32), .ref q_4, .int (0 : Int32), .ref q_5, .ref q_6, .null, .null, .null, .null, .null], ai G q_1 161 (fun _ => 0), ai G q_2 161 (fun _ => 0), ai G q_3 70 (fun _ => 0), ai G q_4 40 (fun _ => 0), al G q_5 96 (fun _ => 0), al G q_6 24 (fun _ => 0), ai G q_7 4 (fun _ => 0)] H := hP
  have hD : va_D A [oc h 9 [.ref q_1, .ref q_2, .int (0 : Int32), .ref q_3, .int (0 : Int32), .ref q_4, .int (0 : Int32), .ref q_5, .ref q_6, .null, .null, .null, .null, .null], ai G q_1 161 (fun _ => 0), ai G q_2 161 (fun _ => 0), ai G q_3 70 (fun _ => 0), ai G q_4 40 (fun _ => 0), al G q_5 96 (fun _ => 0), al G q_6 24 (fun _ => 0), ai G q_7 4 (fun _ => 0)] := hD
  refine va_putF (D := G.1) (ci := 9) (v := .ref q_7) (ty := (.array .int)) (C := RX9) (T := TX9) (N := 14) hx hb hts in_X9 tyX9 tyX9_ok nmX9 hown hK.1 hP hD hS 0 rfl rfl 9 (by decide) (hts _ q826) (fun _ h9 => h9) rfl hin rfl (by decide +kernel) rfl rfl (Nat.le_of_ble_eq_true rfl) dX9_init_58 (fun H locs hP hD hS => ?_)
  have hP : va_P G.1 gCl [oc h 9 [.ref q_1, .ref q_2, .int (0 : Int32), .ref q_3, .int (0 : Int32), .ref q_4, .int (0 : Int32), .ref q_5, .ref q_6, .ref q_7, .null, .null, .null, .null], ai G q_1 161 (fun _ => 0), ai G q_2 161 (fun _ => 0), ai G q_3 70 (fun _ => 0), ai G q_4 40 (fun _ => 0), al G q_5 96 (fun _ => 0), al G q_6 24 (fun _ => 0), ai G q_7 4 (fun _ => 0)] H := hP
  have hD : va_D A [oc h 9 [.ref q_1, .ref q_2, .int (0 : Int32), .ref q_3, .int (0 : Int32), .ref q_4, .int (0 : Int32), .ref q_5, .ref q_6, .ref q_7, .null, .null, .null, .null], ai G q_1 161 (fun _ => 0), ai G q_2 161 (fun _ => 0), ai G q_3 70 (fun _ => 0), ai G q_4 40 (fun _ => 0), al G q_5 96 (fun _ => 0), al G q_6 24 (fun _ => 0), ai G q_7 4 (fun _ => 0)] := hD
  refine lv_aload_n hx hb dX9_init_61 rfl (lv_at hl 0 rfl) ?_
  refine lv_iconst (v := (4 : Int32)) hx hb dX9_init_62 (by decide) ?_
  refine va_newa (atype := .int) hx hb (hts _ q161) (ty := .int) rfl hK.1 hP hD hS hA (N' := 4) (a0 := (4, .inl (fun _ => 0))) (fun _ => rfl) (by decide) (by decide) (by decide) (Nat.le_of_ble_eq_true rfl) (Nat.le_of_ble_eq_true rfl) dX9_init_63 (fun q_8 cA H hK1 hP hD hS => ?_)
  cases x_same hK.1 hK1 0 rfl
  have hP : va_P G.1 gCl [oc h 9 [.ref q_1, .ref q_2, .int (0 : Int32), .ref q_3, .int (0 : Int32), .ref q_4, .int (0 : Int32), .ref q_5, .ref q_6, .ref q_7, .null, .null, .null, .null], ai G q_1 161 (fun _ => 0), ai G q_2 161 (fun _ => 0), ai G q_3 70 (fun _ => 0), ai G q_4 40 (fun _ => 0), al G q_5 96 (fun _ => 0), al G q_6 24 (fun _ => 0), ai G q_7 4 (fun _ => 0), ai G q_8 4 (fun _ => 0)] H := hP
  have hD : va_D A [oc h 9 [.ref q_1, .ref q_2, .int (0 : Int32), .ref q_3, .int (0 : Int32), .ref q_4, .int (0 : Int32), .ref q_5, .ref q_6, .ref q_7, .null, .null, .null, .null], ai G q_1 161 (fun _ => 0), ai G q_2 161 (fun _ => 0), ai G q_3 70 (fun _ => 0), ai G q_4 40 (fun _ => 0), al G q_5 96 (fun _ => 0), al G q_6 24 (fun _ => 0), ai G q_7 4 (fun _ => 0), ai G q_8 4 (fun _ => 0)] := hD
  refine va_putF (D := G.1) (ci := 9) (v := .ref q_8) (ty := (.array .int)) (C := RX9) (T := TX9) (N := 14) hx hb hts in_X9 tyX9 tyX9_ok nmX9 hown hK.1 hP hD hS 0 rfl rfl 10 (by decide) (hts _ q827) (fun _ h9 => h9) rfl hin rfl (by decide +kernel) rfl rfl (Nat.le_of_ble_eq_true rfl) dX9_init_65 (fun H locs hP hD hS => ?_)
  have hP : va_P G.1 gCl [oc h 9 [.ref q_1, .ref q_2, .int (0 : Int32), .ref q_3, .int (0 : Int32), .ref q_4, .int (0 : Int32), .ref q_5, .ref q_6, .ref q_7, .ref q_8, .null, .null, .null], ai G q_1 161 (fun _ => 0), ai G q_2 161 (fun _ => 0), ai G q_3 70 (fun _ => 0), ai G q_4 40 (fun _ => 0), al G q_5 96 (fun _ => 0), al G q_6 24 (fun _ => 0), ai G q_7 4 (fun _ => 0), ai G q_8 4 (fun _ => 0)] H := hP
  have hD : va_D A [oc h 9 [.ref q_1, .ref q_2, .int (0 : Int32), .ref q_3, .int (0 : Int32), .ref q_4, .int (0 : Int32), .ref q_5, .ref q_6, .ref q_7, .ref q_8, .null, .null, .null], ai G q_1 161 (fun _ => 0), ai G q_2 161 (fun _ => 0), ai G q_3 70 (fun _ => 0), ai G q_4 40 (fun _ => 0), al G q_5 96 (fun _ => 0), al G q_6 24 (fun _ => 0), ai G q_7 4 (fun _ => 0), ai G q_8 4 (fun _ => 0)] := hD
  refine lv_aload_n hx hb dX9_init_68 rfl (lv_at hl 0 rfl) ?_
  refine lv_bipush (v := (6 : Int32)) hx hb dX9_init_69 (by decide) ?_
  refine va_newa (atype := .int) hx hb (hts _ q161) (ty := .int) rfl hK.1 hP hD hS hA (N' := 6) (a0 := (6, .inl (fun _ => 0))) (fun _ => rfl) (by decide) (by decide) (by decide) (Nat.le_of_ble_eq_true rfl) (Nat.le_of_ble_eq_true rfl) dX9_init_71 (fun q_9 cA H hK1 hP hD hS => ?_)
  cases x_same hK.1 hK1 0 rfl
  have hP : va_P G.1 gCl [oc h 9 [.ref q_1, .ref q_2, .int (0 : Int32), .ref q_3, .int (0 : Int32), .ref q_4, .int (0 : Int32), .ref q_5, .ref q_6, .ref q_7, .ref q_8, .null, .null, .null], ai G q_1 161 (fun _ => 0), ai G q_2 161 (fun _ => 0), ai G q_3 70 (fun _ => 0), ai G q_4 40 (fun _ => 0), al G q_5 96 (fun _ => 0), al G q_6 24 (fun _ => 0), ai G q_7 4 (fun _ => 0), ai G q_8 4 (fun _ => 0), ai G q_9 6 (fun _ => 0)] H := hP
  have hD : va_D A [oc h 9 [.ref q_1, .ref q_2, .int (0 : Int32), .ref q_3, .int (0 : Int32), .ref q_4, .int (0 : Int32), .ref q_5, .ref q_6, .ref q_7, .ref q_8, .null, .null, .null], ai G q_1 161 (fun _ => 0), ai G q_2 161 (fun _ => 0), ai G q_3 70 (fun _ => 0), ai G q_4 40 (fun _ => 0), al G q_5 96 (fun _ => 0), al G q_6 24 (fun _ => 0), ai G q_7 4 (fun _ => 0), ai G q_8 4 (fun _ => 0), ai G q_9 6 (fun _ => 0)] := hD
  refine va_putF (D := G.1) (ci := 9) (v := .ref q_9) (ty := (.array .int)) (C := RX9) (T := TX9) (N := 14) hx hb hts in_X9 tyX9 tyX9_ok nmX9 hown hK.1 hP hD hS 0 rfl rfl 11 (by decide) (hts _ q828) (fun _ h9 => h9) rfl hin rfl (by decide +kernel) rfl rfl (Nat.le_of_ble_eq_true rfl) dX9_init_73 (fun H locs hP hD hS => ?_)
  have hP : va_P G.1 gCl [oc h 9 [.ref q_1, .ref q_2, .int (0 : Int32), .ref q_3, .int (0 : Int32), .ref q_4, .int (0 : Int32), .ref q_5, .ref q_6, .ref q_7, .ref q_8, .ref q_9, .null, .null], ai G q_1 161 (fun _ => 0), ai G q_2 161 (fun _ => 0), ai G q_3 70 (fun _ => 0), ai G q_4 40 (fun _ => 0), al G q_5 96 (fun _ => 0), al G q_6 24 (fun _ => 0), ai G q_7 4 (fun _ => 0), ai G q_8 4 (fun _ => 0), ai G q_9 6 (fun _ => 0)] H := hP
  have hD : va_D A [oc h 9 [.ref q_1, .ref q_2, .int (0 : Int32), .ref q_3, .int (0 : Int32), .ref q_4, .int (0 : Int32), .ref q_5, .ref q_6, .ref q_7, .ref q_8, .ref q_9, .null, .null], ai G q_1 161 (fun _ => 0), ai G q_2 161 (fun _ => 0), ai G q_3 70 (fun _ => 0), ai G q_4 40 (fun _ => 0), al G q_5 96 (fun _ => 0), al G q_6 24 (fun _ => 0), ai G q_7 4 (fun _ => 0), ai G q_8 4 (fun _ => 0), ai G q_9 6 (fun _ => 0)] := hD
  refine lv_aload_n hx hb dX9_init_76 rfl (lv_at hl 0 rfl) ?_
  refine lv_bipush (v := (40 : Int32)) hx hb dX9_init_77 (by decide) ?_
  refine va_newa (atype := .int) hx hb (hts _ q161) (ty := .int) rfl hK.1 hP hD hS hA (N' := 40) (a0 := (40, .inl (fun _ => 0))) (fun _ => rfl) (by decide) (by decide) (by decide) (Nat.le_of_ble_eq_true rfl) (Nat.le_of_ble_eq_true rfl) dX9_init_79 (fun q_10 cA H hK1 hP hD hS => ?_)
  cases x_same hK.1 hK1 0 rfl
  have hP : va_P G.1 gCl [oc h 9 [.ref q_1, .ref q_2, .int (0 : Int32), .ref q_3, .int (0 : Int32), .ref q_4, .int (0 : Int32), .ref q_5, .ref q_6, .ref q_7, .ref q_8, .ref q_9, .null, .null], ai G q_1 161 (fun _ => 0), ai G q_2 161 (fun _ => 0), ai G q_3 70 (fun _ => 0), ai G q_4 40 (fun _ => 0), al G q_5 96 (fun _ => 0), al G q_6 24 (fun _ => 0), ai G q_7 4 (fun _ => 0), ai G q_8 4 (fun _ => 0), ai G q_9 6 (fun _ => 0), ai G q_10 40 (fun _ => 0)] H := hP
  have hD : va_D A [oc h 9 [.ref q_1, .ref q_2, .int (0 : Int32), .ref q_3, .int (0 : Int32), .ref q_4, .int (0 : Int32), .ref q_5, .ref q_6, .ref q_7, .ref q_8, .ref q_9, .null, .null], ai G q_1 161 (fun _ => 0), ai G q_2 161 (fun _ => 0), ai G q_3 70 (fun _ => 0), ai G q_4 40 (fun _ => 0), al G q_5 96 (fun _ => 0), al G q_6 24 (fun _ => 0), ai G q_7 4 (fun _ => 0), ai G q_8 4 (fun _ => 0), ai G q_9 6 (fun _ => 0), ai G q_10 40 (fun _ => 0)] := hD
  refine va_putF (D := G.1) (ci := 9) (v := .ref q_10) (ty := (.array .int)) (C := RX9) (T := TX9) (N := 14) hx hb hts in_X9 tyX9 tyX9_ok nmX9 hown hK.1 hP hD hS 0 rfl rfl 12 (by decide) (hts _ q829) (fun _ h9 => h9) rfl hin rfl (by decide +kernel) rfl rfl (Nat.le_of_ble_eq_true rfl) dX9_init_81 (fun H locs hP hD hS => ?_)
  have hP : va_P G.1 gCl [oc h 9 [.ref q_1, .ref q_2, .int (0 : Int32), .ref q_3, .int (0 : Int32), .ref q_4, .int (0 : Int32), .ref q_5, .ref q_6, .ref q_7, .ref q_8, .ref q_9, .ref q_10, .null], ai G q_1 161 (fun _ => 0), ai G q_2 161 (fun _ => 0), ai G q_3 70 (fun _ => 0), ai G q_4 40 (fun _ => 0), al G q_5 96 (fun _ => 0), al G q_6 24 (fun _ => 0), ai G q_7 4 (fun _ => 0), ai G q_8 4 (fun _ => 0), ai G q_9 6 (fun _ => 0), ai G q_10 40 (fun _ => 0)] H := hP
  have hD : va_D A [oc h 9 [.ref q_1, .ref q_2, .int (0 : Int32), .ref q_3, .int (0 : Int32), .ref q_4, .int (0 : Int32), .ref q_5, .ref q_6, .ref q_7, .ref q_8, .ref q_9, .ref q_10, .null], ai G q_1 161 (fun _ => 0), ai G q_2 161 (fun _ => 0), ai G q_3 70 (fun _ => 0), ai G q_4 40 (fun _ => 0), al G q_5 96 (fun _ => 0), al G q_6 24 (fun _ => 0), ai G q_7 4 (fun _ => 0), ai G q_8 4 (fun _ => 0), ai G q_9 6 (fun _ => 0), ai G q_10 40 (fun _ => 0)] := hD
  refine lv_aload_n hx hb dX9_init_84 rfl (lv_at hl 0 rfl) ?_
  refine lv_bipush (v := (40 : Int32)) hx hb dX9_init_85 (by decide) ?_
  refine va_newa (atype := .int) hx hb (hts _ q161) (ty := .int) rfl hK.1 hP hD hS hA (N' := 40) (a0 := (40, .inl (fun _ => 0))) (fun _ => rfl) (by decide) (by decide) (by decide) (Nat.le_of_ble_eq_true rfl) (Nat.le_of_ble_eq_true rfl) dX9_init_87 (fun q_11 cA H hK1 hP hD hS => ?_)
  cases x_same hK.1 hK1 0 rfl
  have hP : va_P G.1 gCl [oc h 9 [.ref q_1, .ref q_2, .int (0 : Int32), .ref q_3, .int (0 : Int32), .ref q_4, .int (0 : Int32), .ref q_5, .ref q_6, .ref q_7, .ref q_8, .ref q_9, .ref q_10, .null], ai G q_1 161 (fun _ => 0), ai G q_2 161 (fun _ => 0), ai G q_3 70 (fun _ => 0), ai G q_4 40 (fun _ => 0), al G q_5 96 (fun _ => 0), al G q_6 24 (fun _ => 0), ai G q_7 4 (fun _ => 0), ai G q_8 4 (fun _ => 0), ai G q_9 6 (fun _ => 0), ai G q_10 40 (fun _ => 0), ai G q_11 40 (fun _ => 0)] H := hP
  have hD : va_D A [oc h 9 [.ref q_1, .ref q_2, .int (0 : Int32), .ref q_3, .int (0 : Int32), .ref q_4, .int (0 : Int32), .ref q_5, .ref q_6, .ref q_7, .ref q_8, .ref q_9, .ref q_10, .null], ai G q_1 161 (fun _ => 0), ai G q_2 161 (fun _ => 0), ai G q_3 70 (fun _ => 0), ai G q_4 40 (fun _ => 0), al G q_5 96 (fun _ => 0), al G q_6 24 (fun _ => 0), ai G q_7 4 (fun _ => 0), ai G q_8 4 (fun _ => 0), ai G q_9 6 (fun _ => 0), ai G q_10 40 (fun _ => 0), ai G q_11 40 (fun _ => 0)] := hD
  refine va_putF (D := G.1) (ci := 9) (v := .ref q_11) (ty := (.array .int)) (C := RX9) (T := TX9) (N := 14) hx hb hts in_X9 tyX9 tyX9_ok nmX9 hown hK.1 hP hD hS 0 rfl rfl 13 (by decide) (hts _ q830) (fun _ h9 => h9) rfl hin rfl (by decide +kernel) rfl rfl (Nat.le_of_ble_eq_true rfl) dX9_init_89 (fun H locs hP hD hS => ?_)
  have hP : va_P G.1 gCl [oc h 9 [.ref q_1, .ref q_2, .int (0 : Int32), .ref q_3, .int (0 : Int32), .ref q_4, .int (0 : Int32), .ref q_5, .ref q_6, .ref q_7, .ref q_8, .ref q_9, .ref q_10, .ref q_11], ai G q_1 161 (fun _ => 0), ai G q_2 161 (fun _ => 0), ai G q_3 70 (fun _ => 0), ai G q_4 40 (fun _ => 0), al G q_5 96 (fun _ => 0), al G q_6 24 (fun _ => 0), ai G q_7 4 (fun _ => 0), ai G q_8 4 (fun _ => 0), ai G q_9 6 (fun _ => 0), ai G q_10 40 (fun _ => 0), ai G q_11 40 (fun _ => 0)] H := hP
  have hD : va_D A [oc h 9 [.ref q_1, .ref q_2, .int (0 : Int32), .ref q_3, .int (0 : Int32), .ref q_4, .int (0 : Int32), .ref q_5, .ref q_6, .ref q_7, .ref q_8, .ref q_9, .ref q_10, .ref q_11], ai G q_1 161 (fun _ => 0), ai G q_2 161 (fun _ => 0), ai G q_3 70 (fun _ => 0), ai G q_4 40 (fun _ => 0), al G q_5 96 (fun _ => 0), al G q_6 24 (fun _ => 0), ai G q_7 4 (fun _ => 0), ai G q_8 4 (fun _ => 0), ai G q_9 6 (fun _ => 0), ai G q_10 40 (fun _ => 0), ai G q_11 40 (fun _ => 0)] := hD
  refine lv_aload_n hx hb dX9_init_92 rfl (lv_at hl 0 rfl) ?_
  refine va_get (D := G.1) (ci := 9) (v := .ref q_1) (C := RX9) (T := TX9) (N := 14) hx hb hts in_X9 hown hK.1 hP 0 rfl rfl 0 (by decide) (hts _ q817) (fun _ h9 => h9) rfl dX9_init_93 ?_
  refine lv_iconst (v := (3 : Int32)) hx hb dX9_init_96 (by decide) ?_
  refine lv_iconst (v := (1 : Int32)) hx hb dX9_init_97 (by decide) ?_
  refine z_iast hx hb hK.1 hP hD hS 1 0 rfl rfl (vin_l (by decide +kernel)) dX9_init_98 (k := 3) rfl (fun f_12 ef_12 H locs hP hD hS => ?_)
  subst ef_12
  have hP : va_P G.1 gCl [oc h 9 [.ref q_1, .ref q_2, .int (0 : Int32), .ref q_3, .int (0 : Int32), .ref q_4, .int (0 : Int32), .ref q_5, .ref q_6, .ref q_7, .ref q_8, .ref q_9, .ref q_10, .ref q_11], ai G q_1 161 (upd (fun _ => 0) 3 (1 : Int32)), ai G q_2 161 (fun _ => 0), ai G q_3 70 (fun _ => 0), ai G q_4 40 (fun _ => 0), al G q_5 96 (fun _ => 0), al G q_6 24 (fun _ => 0), ai G q_7 4 (fun _ => 0), ai G q_8 4 (fun _ => 0), ai G q_9 6 (fun _ => 0), ai G q_10 40 (fun _ => 0), ai G q_11 40 (fun _ => 0)] H := hP
  have hD : va_D A [oc h 9 [.ref q_1, .ref q_2, .int (0 : Int32), .ref q_3, .int (0 : Int32), .ref q_4, .int (0 : Int32), .ref q_5, .ref q_6, .ref q_7, .ref q_8, .ref q_9, .ref q_10, .ref q_11], ai G q_1 161 (upd (fun _ => 0) 3 (1 : Int32)), ai G q_2 161 (fun _ => 0), ai G q_3 70 (fun _ => 0), ai G q_4 40 (fun _ => 0), al G q_5 96 (fun _ => 0), al G q_6 24 (fun _ => 0), ai G q_7 4 (fun _ => 0), ai G q_8 4 (fun _ => 0), ai G q_9 6 (fun _ => 0), ai G q_10 40 (fun _ => 0), ai G q_11 40 (fun _ => 0)] := hD
  refine lv_iconst (v := (0 : Int32)) hx hb dX9_init_99 (by decide) ?_
  refine lv_istore_n (lv' := [(1, .int (0 : Int32)), (0, .ref h)]) hx hb dX9_init_100 rfl hl (by decide) rfl (fun ls hl => ?_)
  refine lv_iload_n hx hb dX9_init_101 rfl (lv_at hl 0 rfl) ?_
  refine lv_iconst (v := (4 : Int32)) hx hb dX9_init_102 (by decide) ?_
  refine lv_icmp_ge (tgt := 119) hx hb dX9_init_103 (by decide) (fun c_13 => absurd c_13 (by decide)) (fun _ => ?_)
  refine lv_aload_n hx hb dX9_init_106 rfl (lv_at hl 1 rfl) ?_
  refine va_get (D := G.1) (ci := 9) (v := .ref q_7) (C := RX9) (T := TX9) (N := 14) hx hb hts in_X9 hown hK.1 hP 0 rfl rfl 9 (by decide) (hts _ q826) (fun _ h9 => h9) rfl dX9_init_107 ?_
  refine lv_iload_n hx hb dX9_init_110 rfl (lv_at hl 0 rfl) ?_
  refine lv_iconst (v := (-1 : Int32)) hx hb dX9_init_111 (by decide) ?_
  refine z_iast hx hb hK.1 hP hD hS 7 0 rfl rfl (vin_l (by decide +kernel)) dX9_init_112 (k := 0) rfl (fun f_14 ef_14 H locs hP hD hS => ?_)
  subst ef_14
  have hP : va_P G.1 gCl [oc h 9 [.ref q_1, .ref q_2, .int (0 : Int32), .ref q_3, .int (0 : Int32), .ref q_4, .int (0 : Int32), .ref q_5, .ref q_6, .ref q_7, .ref q_8, .ref q_9, .ref q_10, .ref q_11], ai G q_1 161 (upd (fun _ => 0) 3 (1 : Int32)), ai G q_2 161 (fun _ => 0), ai G q_3 70 (fun _ => 0), ai G q_4 40 (fun _ => 0), al G q_5 96 (fun _ => 0), al G q_6 24 (fun _ => 0), ai G q_7 4 (upd (fun _ => 0) 0 (-1 : Int32)), ai G q_8 4 (fun _ => 0), ai G q_9 6 (fun _ => 0), ai G q_10 40 (fun _ => 0), ai G q_11 40 (fun _ => 0)] H := hP
  have hD : va_D A [oc h 9 [.ref q_1, .ref q_2, .int (0 : Int32), .ref q_3, .int (0 : Int32), .ref q_4, .int (0 : Int32), .ref q_5, .ref q_6, .ref q_7, .ref q_8, .ref q_9, .ref q_10, .ref q_11], ai G q_1 161 (upd (fun _ => 0) 3 (1 : Int32)), ai G q_2 161 (fun _ => 0), ai G q_3 70 (fun _ => 0), ai G q_4 40 (fun _ => 0), al G q_5 96 (fun _ => 0), al G q_6 24 (fun _ => 0), ai G q_7 4 (upd (fun _ => 0) 0 (-1 : Int32)), ai G q_8 4 (fun _ => 0), ai G q_9 6 (fun _ => 0), ai G q_10 40 (fun _ => 0), ai G q_11 40 (fun _ => 0)] := hD
  refine lv_iinc (v := (1 : Int32)) (lv' := [(1, .int (1 : Int32)), (0, .ref h)]) hx hb dX9_init_113 hl (k := 0) rfl rfl (by decide) rfl (fun ls hl => ?_)
  refine lv_goto (tgt := 101) hx hb dX9_init_116 (by decide) ?_
  refine lv_iload_n hx hb dX9_init_101 rfl (lv_at hl 0 rfl) ?_
  refine lv_iconst (v := (4 : Int32)) hx hb dX9_init_102 (by decide) ?_
  refine lv_icmp_ge (tgt := 119) hx hb dX9_init_103 (by decide) (fun c_15 => absurd c_15 (by decide)) (fun _ => ?_)
  refine lv_aload_n hx hb dX9_init_106 rfl (lv_at hl 1 rfl) ?_
  refine va_get (D := G.1) (ci := 9) (v := .ref q_7) (C := RX9) (T := TX9) (N := 14) hx hb hts in_X9 hown hK.1 hP 0 rfl rfl 9 (by decide) (hts _ q826) (fun _ h9 => h9) rfl dX9_init_107 ?_
  refine lv_iload_n hx hb dX9_init_110 rfl (lv_at hl 0 rfl) ?_
  refine lv_iconst (v := (-1 : Int32)) hx hb dX9_init_111 (by decide) ?_
  refine z_iast hx hb hK.1 hP hD hS 7 0 rfl rfl (vin_l (by decide +kernel)) dX9_init_112 (k := 1) rfl (fun f_16 ef_16 H locs hP hD hS => ?_)
  subst ef_16
  have hP : va_P G.1 gCl [oc h 9 [.ref q_1, .ref q_2, .int (0 : Int32), .ref q_3, .int (0 : Int32), .ref q_4, .int (0 : Int32), .ref q_5, .ref q_6, .ref q_7, .ref q_8, .ref q_9, .ref q_10, .ref q_11], ai G q_1 161 (upd (fun _ => 0) 3 (1 : Int32)), ai G q_2 161 (fun _ => 0), ai G q_3 70 (fun _ => 0), ai G q_4 40 (fun _ => 0), al G q_5 96 (fun _ => 0), al G q_6 24 (fun _ => 0), ai G q_7 4 (upd (upd (fun _ => 0) 0 (-1 : Int32)) 1 (-1 : Int32)), ai G q_8 4 (fun _ => 0), ai G q_9 6 (fun _ => 0), ai G q_10 40 (fun _ => 0), ai G q_11 40 (fun _ => 0)] H := hP
  have hD : va_D A [oc h 9 [.ref q_1, .ref q_2, .int (0 : Int32), .ref q_3, .int (0 : Int32), .ref q_4, .int (0 : Int32), .ref q_5, .ref q_6, .ref q_7, .ref q_8, .ref q_9, .ref q_10, .ref q_11], ai G q_1 161 (upd (fun _ => 0) 3 (1 : Int32)), ai G q_2 161 (fun _ => 0), ai G q_3 70 (fun _ => 0), ai G q_4 40 (fun _ => 0), al G q_5 96 (fun _ => 0), al G q_6 24 (fun _ => 0), ai G q_7 4 (upd (upd (fun _ => 0) 0 (-1 : Int32)) 1 (-1 : Int32)), ai G q_8 4 (fun _ => 0), ai G q_9 6 (fun _ => 0), ai G q_10 40 (fun _ => 0), ai G q_11 40 (fun _ => 0)] := hD
  refine lv_iinc (v := (2 : Int32)) (lv' := [(1, .int (2 : Int32)), (0, .ref h)]) hx hb dX9_init_113 hl (k := 0) rfl rfl (by decide) rfl (fun ls hl => ?_)
  refine lv_goto (tgt := 101) hx hb dX9_init_116 (by decide) ?_
  refine lv_iload_n hx hb dX9_init_101 rfl (lv_at hl 0 rfl) ?_
  refine lv_iconst (v := (4 : Int32)) hx hb dX9_init_102 (by decide) ?_
  refine lv_icmp_ge (tgt := 119) hx hb dX9_init_103 (by decide) (fun c_17 => absurd c_17 (by decide)) (fun _ => ?_)
  refine lv_aload_n hx hb dX9_init_106 rfl (lv_at hl 1 rfl) ?_
  refine va_get (D := G.1) (ci := 9) (v := .ref q_7) (C := RX9) (T := TX9) (N := 14) hx hb hts in_X9 hown hK.1 hP 0 rfl rfl 9 (by decide) (hts _ q826) (fun _ h9 => h9) rfl dX9_init_107 ?_
  refine lv_iload_n hx hb dX9_init_110 rfl (lv_at hl 0 rfl) ?_
  refine lv_iconst (v := (-1 : Int32)) hx hb dX9_init_111 (by decide) ?_
  refine z_iast hx hb hK.1 hP hD hS 7 0 rfl rfl (vin_l (by decide +kernel)) dX9_init_112 (k := 2) rfl (fun f_18 ef_18 H locs hP hD hS => ?_)
  subst ef_18
  have hP : va_P G.1 gCl [oc h 9 [.ref q_1, .ref q_2, .int (0 : Int32), .ref q_3, .int (0 : Int32), .ref q_4, .int (0 : Int32), .ref q_5, .ref q_6, .ref q_7, .ref q_8, .ref q_9, .ref q_10, .ref q_11], ai G q_1 161 (upd (fun _ => 0) 3 (1 : Int32)), ai G q_2 161 (fun _ => 0), ai G q_3 70 (fun _ => 0), ai G q_4 40 (fun _ => 0), al G q_5 96 (fun _ => 0), al G q_6 24 (fun _ => 0), ai G q_7 4 (upd (upd (upd (fun _ => 0) 0 (-1 : Int32)) 1 (-1 : Int32)) 2 (-1 : Int32)), ai G q_8 4 (fun _ => 0), ai G q_9 6 (fun _ => 0), ai G q_10 40 (fun _ => 0), ai G q_11 40 (fun _ => 0)] H := hP
  have hD : va_D A [oc h 9 [.ref q_1, .ref q_2, .int (0 : Int32), .ref q_3, .int (0 : Int32), .ref q_4, .int (0 : Int32), .ref q_5, .ref q_6, .ref q_7, .ref q_8, .ref q_9, .ref q_10, .ref q_11], ai G q_1 161 (upd (fun _ => 0) 3 (1 : Int32)), ai G q_2 161 (fun _ => 0), ai G q_3 70 (fun _ => 0), ai G q_4 40 (fun _ => 0), al G q_5 96 (fun _ => 0), al G q_6 24 (fun _ => 0), ai G q_7 4 (upd (upd (upd (fun _ => 0) 0 (-1 : Int32)) 1 (-1 : Int32)) 2 (-1 : Int32)), ai G q_8 4 (fun _ => 0), ai G q_9 6 (fun _ => 0), ai G q_10 40 (fun _ => 0), ai G q_11 40 (fun _ => 0)] := hD
  refine lv_iinc (v := (3 : Int32)) (lv' := [(1, .int (3 : Int32)), (0, .ref h)]) hx hb dX9_init_113 hl (k := 0) rfl rfl (by decide) rfl (fun ls hl => ?_)
  refine lv_goto (tgt := 101) hx hb dX9_init_116 (by decide) ?_
  refine lv_iload_n hx hb dX9_init_101 rfl (lv_at hl 0 rfl) ?_
  refine lv_iconst (v := (4 : Int32)) hx hb dX9_init_102 (by decide) ?_
  refine lv_icmp_ge (tgt := 119) hx hb dX9_init_103 (by decide) (fun c_19 => absurd c_19 (by decide)) (fun _ => ?_)
  refine lv_aload_n hx hb dX9_init_106 rfl (lv_at hl 1 rfl) ?_
  refine va_get (D := G.1) (ci := 9) (v := .ref q_7) (C := RX9) (T := TX9) (N := 14) hx hb hts in_X9 hown hK.1 hP 0 rfl rfl 9 (by decide) (hts _ q826) (fun _ h9 => h9) rfl dX9_init_107 ?_
  refine lv_iload_n hx hb dX9_init_110 rfl (lv_at hl 0 rfl) ?_
  refine lv_iconst (v := (-1 : Int32)) hx hb dX9_init_111 (by decide) ?_
  refine z_iast hx hb hK.1 hP hD hS 7 0 rfl rfl (vin_l (by decide +kernel)) dX9_init_112 (k := 3) rfl (fun f_20 ef_20 H locs hP hD hS => ?_)
  subst ef_20
  have hP : va_P G.1 gCl [oc h 9 [.ref q_1, .ref q_2, .int (0 : Int32), .ref q_3, .int (0 : Int32), .ref q_4, .int (0 : Int32), .ref q_5, .ref q_6, .ref q_7, .ref q_8, .ref q_9, .ref q_10, .ref q_11], ai G q_1 161 (upd (fun _ => 0) 3 (1 : Int32)), ai G q_2 161 (fun _ => 0), ai G q_3 70 (fun _ => 0), ai G q_4 40 (fun _ => 0), al G q_5 96 (fun _ => 0), al G q_6 24 (fun _ => 0), ai G q_7 4 (upd (upd (upd (upd (fun _ => 0) 0 (-1 : Int32)) 1 (-1 : Int32)) 2 (-1 : Int32)) 3 (-1 : Int32)), ai G q_8 4 (fun _ => 0), ai G q_9 6 (fun _ => 0), ai G q_10 40 (fun _ => 0), ai G q_11 40 (fun _ => 0)] H := hP
  have hD : va_D A [oc h 9 [.ref q_1, .ref q_2, .int (0 : Int32), .ref q_3, .int (0 : Int32), .ref q_4, .int (0 : Int32), .ref q_5, .ref q_6, .ref q_7, .ref q_8, .ref q_9, .ref q_10, .ref q_11], ai G q_1 161 (upd (fun _ => 0) 3 (1 : Int32)), ai G q_2 161 (fun _ => 0), ai G q_3 70 (fun _ => 0), ai G q_4 40 (fun _ => 0), al G q_5 96 (fun _ => 0), al G q_6 24 (fun _ => 0), ai G q_7 4 (upd (upd (upd (upd (fun _ => 0) 0 (-1 : Int32)) 1 (-1 : Int32)) 2 (-1 : Int32)) 3 (-1 : Int32)), ai G q_8 4 (fun _ => 0), ai G q_9 6 (fun _ => 0), ai G q_10 40 (fun _ => 0), ai G q_11 40 (fun _ => 0)] := hD
  refine lv_iinc (v := (4 : Int32)) (lv' := [(1, .int (4 : Int32)), (0, .ref h)]) hx hb dX9_init_113 hl (k := 0) rfl rfl (by decide) rfl (fun ls hl => ?_)
  refine lv_goto (tgt := 101) hx hb dX9_init_116 (by decide) ?_
  refine lv_iload_n hx hb dX9_init_101 rfl (lv_at hl 0 rfl) ?_
  refine lv_iconst (v := (4 : Int32)) hx hb dX9_init_102 (by decide) ?_
  refine lv_icmp_ge (tgt := 119) hx hb dX9_init_103 (by decide) (fun _ => ?_) (fun c_21 => absurd (by decide) c_21)
  exact W.vret hx hb hr (fun t ht hW => ⟨⟨fun k => ([q_1, q_2, q_3, q_4, q_5, q_6, q_7, q_8, q_9, q_10, q_11] : List Nat).getD k 0, rfl, trivial, by rw [ht]; exact hP, hD⟩, hS.F ht⟩) hS.2.2 dX9_init_119
