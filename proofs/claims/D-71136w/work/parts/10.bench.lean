set_option maxRecDepth 100000
/-! java/lang/Integer.bitCount(I)I -/
def wp_J3_bitCount (p0 : Int32) (Q : Int32 → Prop) : Prop :=
  (∀ v_1 : Int32, v_1 = (p0 - ((((p0).toUInt32 >>> (((1 : Int32)).toUInt32 &&& Int32.toUInt32 31)).toInt32) &&& (1431655765 : Int32))) → (∀ v_2 : Int32, v_2 = ((v_1 &&& (858993459 : Int32)) + ((((v_1).toUInt32 >>> (((2 : Int32)).toUInt32 &&& Int32.toUInt32 31)).toInt32) &&& (858993459 : Int32))) → (∀ v_3 : Int32, v_3 = ((v_2 + (((v_2).toUInt32 >>> (((4 : Int32)).toUInt32 &&& Int32.toUInt32 31)).toInt32)) &&& (252645135 : Int32)) → (∀ v_4 : Int32, v_4 = (v_3 + (((v_3).toUInt32 >>> (((8 : Int32)).toUInt32 &&& Int32.toUInt32 31)).toInt32)) → (∀ v_5 : Int32, v_5 = (v_4 + (((v_4).toUInt32 >>> (((16 : Int32)).toUInt32 &&& Int32.toUInt32 31)).toInt32)) → Q (v_5 &&& (63 : Int32)))))))
set_option maxHeartbeats 4000000 in
theorem mt_J3_bitCount (l : Launch) (G : GT)  (sz : Nat) (p0 : Int32) (Q : Int32 → Prop) (hw : wp_J3_bitCount p0 Q) : Met l yJ3_bitCount (ws_ yJ3_bitCount cJ3_bitCount 1 (some .int)) ({ frames := 0, cells := 0, slots := 0, locals := 0 } : Room) (va_Pc [.int p0] (fun U => U.heap.size = sz ∧ va_P G.1 gCl [] U.heap ∧ gK G U ∧ va_D (fun _ => True) [])) ((fun A => (va_Qi (fun (r : Int32) (u : Unit) => Q r ) (fun u t => va_P G.1 gCl [] t.heap ∧ va_D A []) A)) (va_A [] sz)) 0 0 (va_A [] sz) := by
  refine Met.ofW (cc := cJ3_bitCount) (maxL := 1) (ret := (some .int)) (by decide) rfl ?_
  intro p e s m args below meth c s₁ B hml hv
  obtain ⟨rfl, hsz, hP, hK, hD0⟩ := hv
  have hx := B.exec
  have hb := B.bytes
  have hr := B.returns
  have hts := atoms_spec (ws := (ws_ yJ3_bitCount cJ3_bitCount 1 (some .int))) B.pre
  have hts : ∀ w ∈ lw_all, w.before _ s = true := fun w h => hts w (List.mem_cons_of_mem _ h)
  have hown : s.vm.findClass RJ3 = some m.cls := findClass_of_methodNamed B.named
  have hlocks := B.notSynchronized
  subst hsz
  have hD := hD0.self (sz := s.heap.size)
  generalize hAe : va_A [] s.heap.size = A at hD ⊢
  have hA : ∀ q : Nat, s.heap.size ≤ q → A q := fun q h => by rw [← hAe]; exact Or.inr h
  have hS : va_S A s.heap s.heap [] := va_S.rf
  have C : Cx p s m meth c cJ3_bitCount 1 (some .int) RJ3 ([.int p0] : List Value).toArray G A := ⟨hx, hb, hr, hlocks, hml, hown, hts, hK, hA⟩
  have hl := lv_entry ([.int p0]) (n := 1) (Nat.le_of_ble_eq_true rfl)
  rw [lg_entry_eq]
  generalize (lg_sl ([.int p0]) ++ List.replicate (1 - (lg_sl ([.int p0])).length) Slot.unset).toArray = ls at hl ⊢
  have hl : lv_has ls 1 [(0, .int p0)] := hl
  unfold wp_J3_bitCount at hw
  refine lv_iload_n hx hb dJ3_bitCount_0 rfl (lv_at hl 0 rfl) ?_
  refine lv_iload_n hx hb dJ3_bitCount_1 rfl (lv_at hl 0 rfl) ?_
  refine lv_iconst (v := (1 : Int32)) hx hb dJ3_bitCount_2 (by decide) ?_
  refine lv_iushr hx hb dJ3_bitCount_3 rfl ?_
  refine lv_ldcw (v := (1431655765 : Int32)) hx hb hown (hts _ q411) dJ3_bitCount_4 ?_
  refine lv_iand hx hb dJ3_bitCount_7 ?_
  refine lv_isub hx hb dJ3_bitCount_8 ?_
  refine lv_topi (fun v_1 ev_1 => ?_)
  replace hw := hw v_1 ev_1
  refine lv_istore_n (lv' := [(0, .int v_1)]) hx hb dJ3_bitCount_9 rfl hl (by decide) rfl (fun ls hl => ?_)
  refine lv_iload_n hx hb dJ3_bitCount_10 rfl (lv_at hl 0 rfl) ?_
  refine lv_ldcw (v := (858993459 : Int32)) hx hb hown (hts _ q412) dJ3_bitCount_11 ?_
  refine lv_iand hx hb dJ3_bitCount_14 ?_
  refine lv_iload_n hx hb dJ3_bitCount_15 rfl (lv_at hl 0 rfl) ?_
  refine lv_iconst (v := (2 : Int32)) hx hb dJ3_bitCount_16 (by decide) ?_
  refine lv_iushr hx hb dJ3_bitCount_17 rfl ?_
  refine lv_ldcw (v := (858993459 : Int32)) hx hb hown (hts _ q412) dJ3_bitCount_18 ?_
  refine lv_iand hx hb dJ3_bitCount_21 ?_
  refine lv_iadd hx hb dJ3_bitCount_22 ?_
  refine lv_topi (fun v_2 ev_2 => ?_)
  replace hw := hw v_2 ev_2
  refine lv_istore_n (lv' := [(0, .int v_2)]) hx hb dJ3_bitCount_23 rfl hl (by decide) rfl (fun ls hl => ?_)
  refine lv_iload_n hx hb dJ3_bitCount_24 rfl (lv_at hl 0 rfl) ?_
  refine lv_iload_n hx hb dJ3_bitCount_25 rfl (lv_at hl 0 rfl) ?_
  refine lv_iconst (v := (4 : Int32)) hx hb dJ3_bitCount_26 (by decide) ?_
  refine lv_iushr hx hb dJ3_bitCount_27 rfl ?_
  refine lv_iadd hx hb dJ3_bitCount_28 ?_
  refine lv_ldcw (v := (252645135 : Int32)) hx hb hown (hts _ q413) dJ3_bitCount_29 ?_
  refine lv_iand hx hb dJ3_bitCount_32 ?_
  refine lv_topi (fun v_3 ev_3 => ?_)
  replace hw := hw v_3 ev_3
  refine lv_istore_n (lv' := [(0, .int v_3)]) hx hb dJ3_bitCount_33 rfl hl (by decide) rfl (fun ls hl => ?_)
  refine lv_iload_n hx hb dJ3_bitCount_34 rfl (lv_at hl 0 rfl) ?_
  refine lv_iload_n hx hb dJ3_bitCount_35 rfl (lv_at hl 0 rfl) ?_
  refine lv_bipush (v := (8 : Int32)) hx hb dJ3_bitCount_36 (by decide) ?_
  refine lv_iushr hx hb dJ3_bitCount_38 rfl ?_
  refine lv_iadd hx hb dJ3_bitCount_39 ?_
  refine lv_topi (fun v_4 ev_4 => ?_)
  replace hw := hw v_4 ev_4
  refine lv_istore_n (lv' := [(0, .int v_4)]) hx hb dJ3_bitCount_40 rfl hl (by decide) rfl (fun ls hl => ?_)
  refine lv_iload_n hx hb dJ3_bitCount_41 rfl (lv_at hl 0 rfl) ?_
  refine lv_iload_n hx hb dJ3_bitCount_42 rfl (lv_at hl 0 rfl) ?_
  refine lv_bipush (v := (16 : Int32)) hx hb dJ3_bitCount_43 (by decide) ?_
  refine lv_iushr hx hb dJ3_bitCount_45 rfl ?_
  refine lv_iadd hx hb dJ3_bitCount_46 ?_
  refine lv_topi (fun v_5 ev_5 => ?_)
  replace hw := hw v_5 ev_5
  refine lv_istore_n (lv' := [(0, .int v_5)]) hx hb dJ3_bitCount_47 rfl hl (by decide) rfl (fun ls hl => ?_)
  refine lv_iload_n hx hb dJ3_bitCount_48 rfl (lv_at hl 0 rfl) ?_
  refine lv_bipush (v := (63 : Int32)) hx hb dJ3_bitCount_49 (by decide) ?_
  refine lv_iand hx hb dJ3_bitCount_51 ?_
  have hP9 := hP
  have hD9 := hD
  exact W.iret (v := (v_5 &&& (63 : Int32))) hx hb hr (fun t ht hW => ⟨⟨(v_5 &&& (63 : Int32)), (), rfl, hw, by rw [ht]; exact hP9, hD9⟩, hS.F ht⟩) hS.2.2 dJ3_bitCount_52

/-! BattleBench.Bench.placeOf(II)I -/
def wp_X6_placeOf (b : BT) (p1 : Int32) (p2 : Int32) (Q : Int32 → Prop) : Prop :=
  (vp_in (((3 : Int32) * p1) + p2) 18 ∧ Q ((pl b) ((((3 : Int32) * p1) + p2)).toNatClampNeg))
set_option maxHeartbeats 4000000 in
theorem mt_X6_placeOf (l : Launch) (G : GT) (h h_0 h_1 h_2 h_3 : Nat) (sz : Nat) (b : BT) (p1 : Int32) (p2 : Int32) (Q : Int32 → Prop) (hw : wp_X6_placeOf b p1 p2 Q) : Met l yX6_placeOf (ws_ yX6_placeOf cX6_placeOf 3 (some .int)) ({ frames := 0, cells := 0, slots := 0, locals := 0 } : Room) (va_Pc [.ref h, .int p1, .int p2] (fun U => U.heap.size = sz ∧ va_P G.1 gCl [oc h 6 [.ref h_0, .ref h_1, .ref h_2, .ref h_3, .int (mn b), .int (ma b), .int (yr b), .int (dw b)], ai G h_0 6 (kd b), ai G h_1 18 (pl b), ai G h_2 6 (lf b), ai G h_3 6 (se b)] U.heap ∧ gK G U ∧ va_D (fun _ => True) [oc h 6 [.ref h_0, .ref h_1, .ref h_2, .ref h_3, .int (mn b), .int (ma b), .int (yr b), .int (dw b)], ai G h_0 6 (kd b), ai G h_1 18 (pl b), ai G h_2 6 (lf b), ai G h_3 6 (se b)])) ((fun A => (va_Qi (fun (r : Int32) (u : Unit) => Q r ) (fun u t => va_P G.1 gCl [oc h 6 [.ref h_0, .ref h_1, .ref h_2, .ref h_3, .int (mn b), .int (ma b), .int (yr b), .int (dw b)], ai G h_0 6 (kd b), ai G h_1 18 (pl b), ai G h_2 6 (lf b), ai G h_3 6 (se b)] t.heap ∧ va_D A [oc h 6 [.ref h_0, .ref h_1, .ref h_2, .ref h_3, .int (mn b), .int (ma b), .int (yr b), .int (dw b)], ai G h_0 6 (kd b), ai G h_1 18 (pl b), ai G h_2 6 (lf b), ai G h_3 6 (se b)]) A)) (va_A [oc h 6 [.ref h_0, .ref h_1, .ref h_2, .ref h_3, .int (mn b), .int (ma b), .int (yr b), .int (dw b)], ai G h_0 6 (kd b), ai G h_1 18 (pl b), ai G h_2 6 (lf b), ai G h_3 6 (se b)] sz)) 0 0 (va_A [oc h 6 [.ref h_0, .ref h_1, .ref h_2, .ref h_3, .int (mn b), .int (ma b), .int (yr b), .int (dw b)], ai G h_0 6 (kd b), ai G h_1 18 (pl b), ai G h_2 6 (lf b), ai G h_3 6 (se b)] sz) := by
  refine Met.ofW (cc := cX6_placeOf) (maxL := 3) (ret := (some .int)) (by decide) rfl ?_
  intro p e s m args below meth c s₁ B hml hv
  obtain ⟨rfl, hsz, hP, hK, hD0⟩ := hv
  have hx := B.exec
  have hb := B.bytes
  have hr := B.returns
  have hts := atoms_spec (ws := (ws_ yX6_placeOf cX6_placeOf 3 (some .int))) B.pre
  have hts : ∀ w ∈ lw_all, w.before _ s = true := fun w h => hts w (List.mem_cons_of_mem _ h)
  have hown : s.vm.findClass RX6 = some m.cls := findClass_of_methodNamed B.named
  have hlocks := B.notSynchronized
  subst hsz
  have hD := hD0.self (sz := s.heap.size)
  generalize hAe : va_A [oc h 6 [.ref h_0, .ref h_1, .ref h_2, .ref h_3, .int (mn b), .int (ma b), .int (yr b), .int (dw b)], ai G h_0 6 (kd b), ai G h_1 18 (pl b), ai G h_2 6 (lf b), ai G h_3 6 (se b)] s.heap.size = A at hD ⊢
  have hA : ∀ q : Nat, s.heap.size ≤ q → A q := fun q h => by rw [← hAe]; exact Or.inr h
  have hS : va_S A s.heap s.heap [] := va_S.rf
  have C : Cx p s m meth c cX6_placeOf 3 (some .int) RX6 ([.ref h, .int p1, .int p2] : List Value).toArray G A := ⟨hx, hb, hr, hlocks, hml, hown, hts, hK, hA⟩
  have hl := lv_entry ([.ref h, .int p1, .int p2]) (n := 3) (Nat.le_of_ble_eq_true rfl)
  rw [lg_entry_eq]
  generalize (lg_sl ([.ref h, .int p1, .int p2]) ++ List.replicate (3 - (lg_sl ([.ref h, .int p1, .int p2])).length) Slot.unset).toArray = ls at hl ⊢
  have hl : lv_has ls 3 [(0, .ref h), (1, .int p1), (2, .int p2)] := hl
  unfold wp_X6_placeOf at hw
  refine lv_aload_n hx hb dX6_placeOf_0 rfl (lv_at hl 0 rfl) ?_
  refine va_get (D := G.1) (ci := 6) (v := .ref h_1) (C := RX6) (T := TX6) (N := 8) hx hb hts in_X6 hown hK.1 hP 0 rfl rfl 1 (by decide) (hts _ q129) (fun _ h9 => h9) rfl dX6_placeOf_1 ?_
  refine lv_iconst (v := (3 : Int32)) hx hb dX6_placeOf_4 (by decide) ?_
  refine lv_iload_n hx hb dX6_placeOf_5 rfl (lv_at hl 1 rfl) ?_
  refine lv_imul hx hb dX6_placeOf_6 ?_
  refine lv_iload_n hx hb dX6_placeOf_7 rfl (lv_at hl 2 rfl) ?_
  refine lv_iadd hx hb dX6_placeOf_8 ?_
  obtain ⟨i_1, hw⟩ := hw
  refine z_iald hx hb hK.1 hP 2 0 rfl rfl i_1 dX6_placeOf_9 (k := ((((3 : Int32) * p1) + p2)).toNatClampNeg) rfl ?_
  have hP9 := hP
  have hD9 := hD
  exact W.iret (v := ((pl b) ((((3 : Int32) * p1) + p2)).toNatClampNeg)) hx hb hr (fun t ht hW => ⟨⟨((pl b) ((((3 : Int32) * p1) + p2)).toNatClampNeg), (), rfl, hw, by rw [ht]; exact hP9, hD9⟩, hS.F ht⟩) hS.2.2 dX6_placeOf_10

/-! BattleBench.Bench.manAt(II)I -/
def wp_X6_manAt_2 (b : BT) (p1 : Int32) (p2 : Int32) (Q : Int32 → Prop)  : Nat → Int32 → Prop
  | 0, _ => False
  | n + 1, x3 =>
    ((((mn b) ≤ x3) → Q (-4 : Int32)) ∧ (¬ ((mn b) ≤ x3) → wp_X6_placeOf b x3 p1 (fun r_2 => ((¬ (r_2 = p2) → wp_X6_manAt_2 b p1 p2 Q  n (x3 + (1 : Int32))) ∧ ((r_2 = p2) → Q x3)))))
set_option maxHeartbeats 4000000 in
theorem wk_X6_manAt_2 {p : Program} {l : Launch} {e : Env} {s : State} {m : MethodId} {below : List Frame} {meth : Method} {c : Code} {args : Array Value} {G : GT} {A : Nat → Prop} (h h_0 h_1 h_2 h_3 : Nat) (b : BT) (p1 : Int32) (p2 : Int32) (Q : Int32 → Prop)  (C : Cx p s m meth c cX6_manAt 4 (some .int) RX6 args G A)  :
    ∀ (n : Nat), ∀  (x3 : Int32) (H : Heap) (locs : List Loc), va_P G.1 gCl [oc h 6 [.ref h_0, .ref h_1, .ref h_2, .ref h_3, .int (mn b), .int (ma b), .int (yr b), .int (dw b)], ai G h_0 6 (kd b), ai G h_1 18 (pl b), ai G h_2 6 (lf b), ai G h_3 6 (se b)] H → va_D A [oc h 6 [.ref h_0, .ref h_1, .ref h_2, .ref h_3, .int (mn b), .int (ma b), .int (yr b), .int (dw b)], ai G h_0 6 (kd b), ai G h_1 18 (pl b), ai G h_2 6 (lf b), ai G h_3 6 (se b)] → va_S A s.heap H locs → ∀ (ls : Array Slot), lv_has ls 4 [(0, .ref h), (1, .int p1), (2, .int p2), (3, .int x3)] → wp_X6_manAt_2 b p1 p2 Q  n x3 → W p l e ({ frames := 1, cells := 0, slots := 0, locals := 22 } : Room) s m args below meth c H locs 0 0 (MQ below (va_Qi (fun (r : Int32) (u : Unit) => Q r ) (fun u t => va_P G.1 gCl [oc h 6 [.ref h_0, .ref h_1, .ref h_2, .ref h_3, .int (mn b), .int (ma b), .int (yr b), .int (dw b)], ai G h_0 6 (kd b), ai G h_1 18 (pl b), ai G h_2 6 (lf b), ai G h_3 6 (se b)] t.heap ∧ va_D A [oc h 6 [.ref h_0, .ref h_1, .ref h_2, .ref h_3, .int (mn b), .int (ma b), .int (yr b), .int (dw b)], ai G h_0 6 (kd b), ai G h_1 18 (pl b), ai G h_2 6 (lf b), ai G h_3 6 (se b)]) A) args s 0 0 A) (F0 m 2 ls []) := by
  have C9 := C
  obtain ⟨hx, hb, hr, hlocks, hml, hown, hts, hK, hA⟩ := C9
  intro n
  induction n with
  | zero => intro x3 H locs hP hD hS ls hl hw; exact False.elim hw
  | succ n ih =>
    intro x3 H locs hP hD hS ls hl hw
    unfold wp_X6_manAt_2 at hw
    refine lv_iload_n hx hb dX6_manAt_2 rfl (lv_at hl 3 rfl) ?_
    refine lv_aload_n hx hb dX6_manAt_3 rfl (lv_at hl 0 rfl) ?_
    refine va_get (D := G.1) (ci := 6) (v := .int (mn b)) (C := RX6) (T := TX6) (N := 8) hx hb hts in_X6 hown hK.1 hP 0 rfl rfl 4 (by decide) (hts _ q135) (fun _ h9 => h9) rfl dX6_manAt_4 ?_
    refine lv_icmp_ge (tgt := 28) hx hb dX6_manAt_7 (by decide) (fun c_1 => ?_) (fun c_1 => ?_)
    · replace hw := hw.1 c_1
      refine lv_bipush (v := (-4 : Int32)) hx hb dX6_manAt_28 (by decide) ?_
      have hP9 := hP
      have hD9 := hD
      exact W.iret (v := (-4 : Int32)) hx hb hr (fun t ht hW => ⟨⟨(-4 : Int32), (), rfl, hw, by rw [ht]; exact hP9, hD9⟩, hS.F ht⟩) hS.2.2 dX6_manAt_30
    · replace hw := hw.2 c_1
      refine lv_aload_n hx hb dX6_manAt_10 rfl (lv_at hl 0 rfl) ?_
      refine lv_iload_n hx hb dX6_manAt_11 rfl (lv_at hl 3 rfl) ?_
      refine lv_iload_n hx hb dX6_manAt_12 rfl (lv_at hl 1 rfl) ?_
      have hPc := hP.sub (ws' := [oc h 6 [.ref h_0, .ref h_1, .ref h_2, .ref h_3, .int (mn b), .int (ma b), .int (yr b), .int (dw b)], ai G h_0 6 (kd b), ai G h_1 18 (pl b), ai G h_2 6 (lf b), ai G h_3 6 (se b)]) [0, 1, 2, 3, 4] rfl
      have hDc := hD.sub (ws' := [oc h 6 [.ref h_0, .ref h_1, .ref h_2, .ref h_3, .int (mn b), .int (ma b), .int (yr b), .int (dw b)], ai G h_0 6 (kd b), ai G h_1 18 (pl b), ai G h_2 6 (lf b), ai G h_3 6 (se b)]) [0, 1, 2, 3, 4] (by decide) rfl
      have hFc := va_free (wc := [oc h 6 [.ref h_0, .ref h_1, .ref h_2, .ref h_3, .int (mn b), .int (ma b), .int (yr b), .int (dw b)], ai G h_0 6 (kd b), ai G h_1 18 (pl b), ai G h_2 6 (lf b), ai G h_3 6 (se b)]) hD hS hA [0, 1, 2, 3, 4] rfl
      refine va_calli (va_runV (As := [.int x3, .int p1]) (rest := []) ⟨hx, hb, hml, hown, hts⟩ (mt_X6_placeOf l G h h_0 h_1 h_2 h_3 H.size b x3 p1 _ hw) (cwV 2 hts (lw_V q324 q325 q326 q60 q327) rfl rfl rfl (by decide +kernel) ⟨Nat.le_of_ble_eq_true rfl, Nat.le_of_ble_eq_true rfl⟩) ⟨fun a U g mk q => by obtain ⟨q0, q1, qP, qK, qD⟩ := q; exact ⟨q0, q1, qP, qK.call, qD⟩, va_recv hK.1 hP (ci := 6) (q0 := 0) rfl rfl, fun U hU hW => ⟨rfl, by rw [hU], by rw [hU]; exact hPc, hK.warm hW, hDc.weaken (fun _ _ _ _ => trivial)⟩⟩ rfl rfl hl.1 rfl (lv_room (Nat.le_of_ble_eq_true rfl)) dX6_manAt_13 ⟨Nat.le_of_ble_eq_true rfl, Nat.le_of_ble_eq_true rfl⟩) hS (fun q _ h => hFc q h) hFc (fun r_2 _ t H1 locs ht hvm hw hB hz1 hk1 hS => ?_)
      obtain ⟨hP1, hD1⟩ := hB
      rw [ht] at hP1
      obtain ⟨hP, hD⟩ := va_join (wr := []) (w1 := [oc h 6 [.ref h_0, .ref h_1, .ref h_2, .ref h_3, .int (mn b), .int (ma b), .int (yr b), .int (dw b)], ai G h_0 6 (kd b), ai G h_1 18 (pl b), ai G h_2 6 (lf b), ai G h_3 6 (se b)]) hP hD [0, 1, 2, 3, 4] [] rfl rfl (by decide) (by decide) hk1 hFc hP1 hD1
      clear hPc hDc hFc hP1 hD1 hz1 hk1 hvm
      generalize H1 = H at hP hS ⊢
      have hP : va_P G.1 gCl [oc h 6 [.ref h_0, .ref h_1, .ref h_2, .ref h_3, .int (mn b), .int (ma b), .int (yr b), .int (dw b)], ai G h_0 6 (kd b), ai G h_1 18 (pl b), ai G h_2 6 (lf b), ai G h_3 6 (se b)] H := hP
      have hD : va_D A [oc h 6 [.ref h_0, .ref h_1, .ref h_2, .ref h_3, .int (mn b), .int (ma b), .int (yr b), .int (dw b)], ai G h_0 6 (kd b), ai G h_1 18 (pl b), ai G h_2 6 (lf b), ai G h_3 6 (se b)] := hD
      refine lv_iload_n hx hb dX6_manAt_16 rfl (lv_at hl 2 rfl) ?_
      refine lv_icmp_ne (tgt := 22) hx hb dX6_manAt_17 (by decide) (fun c_3 => ?_) (fun c_3 => ?_)
      · replace hw := hw.1 c_3
        refine lv_iinc (v := (x3 + (1 : Int32))) (lv' := [(3, .int (x3 + (1 : Int32))), (0, .ref h), (1, .int p1), (2, .int p2)]) hx hb dX6_manAt_22 hl (k := 3) rfl rfl (by decide) rfl (fun ls hl => ?_)
        refine lv_goto (tgt := 2) hx hb dX6_manAt_25 (by decide) ?_
        exact ih (x3 + (1 : Int32)) H locs hP hD hS ls (lv_sub hl [1, 2, 3, 0] rfl) hw
      · replace hw := hw.2 c_3
        refine lv_iload_n hx hb dX6_manAt_20 rfl (lv_at hl 3 rfl) ?_
        have hP9 := hP
        have hD9 := hD
        exact W.iret (v := x3) hx hb hr (fun t ht hW => ⟨⟨x3, (), rfl, hw, by rw [ht]; exact hP9, hD9⟩, hS.F ht⟩) hS.2.2 dX6_manAt_21
def wp_X6_manAt (b : BT) (p1 : Int32) (p2 : Int32) (Q : Int32 → Prop) : Prop :=
  (∃ j_ : Nat, wp_X6_manAt_2 b p1 p2 Q  j_ (0 : Int32))
set_option maxHeartbeats 4000000 in
theorem mt_X6_manAt (l : Launch) (G : GT) (h h_0 h_1 h_2 h_3 : Nat) (sz : Nat) (b : BT) (p1 : Int32) (p2 : Int32) (Q : Int32 → Prop) (hw : wp_X6_manAt b p1 p2 Q) : Met l yX6_manAt (ws_ yX6_manAt cX6_manAt 4 (some .int)) ({ frames := 1, cells := 0, slots := 0, locals := 22 } : Room) (va_Pc [.ref h, .int p1, .int p2] (fun U => U.heap.size = sz ∧ va_P G.1 gCl [oc h 6 [.ref h_0, .ref h_1, .ref h_2, .ref h_3, .int (mn b), .int (ma b), .int (yr b), .int (dw b)], ai G h_0 6 (kd b), ai G h_1 18 (pl b), ai G h_2 6 (lf b), ai G h_3 6 (se b)] U.heap ∧ gK G U ∧ va_D (fun _ => True) [oc h 6 [.ref h_0, .ref h_1, .ref h_2, .ref h_3, .int (mn b), .int (ma b), .int (yr b), .int (dw b)], ai G h_0 6 (kd b), ai G h_1 18 (pl b), ai G h_2 6 (lf b), ai G h_3 6 (se b)])) ((fun A => (va_Qi (fun (r : Int32) (u : Unit) => Q r ) (fun u t => va_P G.1 gCl [oc h 6 [.ref h_0, .ref h_1, .ref h_2, .ref h_3, .int (mn b), .int (ma b), .int (yr b), .int (dw b)], ai G h_0 6 (kd b), ai G h_1 18 (pl b), ai G h_2 6 (lf b), ai G h_3 6 (se b)] t.heap ∧ va_D A [oc h 6 [.ref h_0, .ref h_1, .ref h_2, .ref h_3, .int (mn b), .int (ma b), .int (yr b), .int (dw b)], ai G h_0 6 (kd b), ai G h_1 18 (pl b), ai G h_2 6 (lf b), ai G h_3 6 (se b)]) A)) (va_A [oc h 6 [.ref h_0, .ref h_1, .ref h_2, .ref h_3, .int (mn b), .int (ma b), .int (yr b), .int (dw b)], ai G h_0 6 (kd b), ai G h_1 18 (pl b), ai G h_2 6 (lf b), ai G h_3 6 (se b)] sz)) 0 0 (va_A [oc h 6 [.ref h_0, .ref h_1, .ref h_2, .ref h_3, .int (mn b), .int (ma b), .int (yr b), .int (dw b)], ai G h_0 6 (kd b), ai G h_1 18 (pl b), ai G h_2 6 (lf b), ai G h_3 6 (se b)] sz) := by
  refine Met.ofW (cc := cX6_manAt) (maxL := 4) (ret := (some .int)) (by decide) rfl ?_
  intro p e s m args below meth c s₁ B hml hv
  obtain ⟨rfl, hsz, hP, hK, hD0⟩ := hv
  have hx := B.exec
  have hb := B.bytes
  have hr := B.returns
  have hts := atoms_spec (ws := (ws_ yX6_manAt cX6_manAt 4 (some .int))) B.pre
  have hts : ∀ w ∈ lw_all, w.before _ s = true := fun w h => hts w (List.mem_cons_of_mem _ h)
  have hown : s.vm.findClass RX6 = some m.cls := findClass_of_methodNamed B.named
  have hlocks := B.notSynchronized
  subst hsz
  have hD := hD0.self (sz := s.heap.size)
  generalize hAe : va_A [oc h 6 [.ref h_0, .ref h_1, .ref h_2, .ref h_3, .int (mn b), .int (ma b), .int (yr b), .int (dw b)], ai G h_0 6 (kd b), ai G h_1 18 (pl b), ai G h_2 6 (lf b), ai G h_3 6 (se b)] s.heap.size = A at hD ⊢
  have hA : ∀ q : Nat, s.heap.size ≤ q → A q := fun q h => by rw [← hAe]; exact Or.inr h
  have hS : va_S A s.heap s.heap [] := va_S.rf
  have C : Cx p s m meth c cX6_manAt 4 (some .int) RX6 ([.ref h, .int p1, .int p2] : List Value).toArray G A := ⟨hx, hb, hr, hlocks, hml, hown, hts, hK, hA⟩
  have hl := lv_entry ([.ref h, .int p1, .int p2]) (n := 4) (Nat.le_of_ble_eq_true rfl)
  rw [lg_entry_eq]
  generalize (lg_sl ([.ref h, .int p1, .int p2]) ++ List.replicate (4 - (lg_sl ([.ref h, .int p1, .int p2])).length) Slot.unset).toArray = ls at hl ⊢
  have hl : lv_has ls 4 [(0, .ref h), (1, .int p1), (2, .int p2)] := hl
  unfold wp_X6_manAt at hw
  refine lv_iconst (v := (0 : Int32)) hx hb dX6_manAt_0 (by decide) ?_
  refine lv_istore_n (lv' := [(3, .int (0 : Int32)), (0, .ref h), (1, .int p1), (2, .int p2)]) hx hb dX6_manAt_1 rfl hl (by decide) rfl (fun ls hl => ?_)
  obtain ⟨j_, hw⟩ := hw
  exact wk_X6_manAt_2 h h_0 h_1 h_2 h_3 b p1 p2  Q  C  j_ (0 : Int32) s.heap [] hP hD hS ls (lv_sub hl [1, 2, 3, 0] rfl) hw

/-! BattleBench.Bench.add(II)V -/
def wp_X6_add (b : BT) (p1 : Int32) (p2 : Int32) (Q : (BT) → Prop) : Prop :=
  (vp_in (mn b) 6 ∧ ∀ f_2 : Nat → Int32, f_2 = upd (kd b) (mn b).toNatClampNeg p1 → (vp_in (mn b) 6 ∧ ∀ f_4 : Nat → Int32, f_4 = upd (lf b) (mn b).toNatClampNeg p2 → (vp_in (ma b) 6 ∧ ∀ f_6 : Nat → Int32, f_6 = upd (se b) (ma b).toNatClampNeg (mn b) → (∀ v_7 : Int32, v_7 = ((ma b) + (1 : Int32)) → (∀ v_8 : Int32, v_8 = ((mn b) + (1 : Int32)) → Q (f_2, (pl b), f_4, f_6, v_8, v_7, (yr b), (dw b)))))))
set_option maxHeartbeats 4000000 in
theorem mt_X6_add (l : Launch) (G : GT) (h h_0 h_1 h_2 h_3 : Nat) (sz : Nat) (b : BT) (p1 : Int32) (p2 : Int32) (Q : (BT) → Prop) (hw : wp_X6_add b p1 p2 Q) : Met l yX6_add (ws_ yX6_add cX6_add 3 none) ({ frames := 0, cells := 0, slots := 0, locals := 0 } : Room) (va_Pc [.ref h, .int p1, .int p2] (fun U => U.heap.size = sz ∧ va_P G.1 gCl [oc h 6 [.ref h_0, .ref h_1, .ref h_2, .ref h_3, .int (mn b), .int (ma b), .int (yr b), .int (dw b)], ai G h_0 6 (kd b), ai G h_1 18 (pl b), ai G h_2 6 (lf b), ai G h_3 6 (se b)] U.heap ∧ gK G U ∧ va_D (fun _ => True) [oc h 6 [.ref h_0, .ref h_1, .ref h_2, .ref h_3, .int (mn b), .int (ma b), .int (yr b), .int (dw b)], ai G h_0 6 (kd b), ai G h_1 18 (pl b), ai G h_2 6 (lf b), ai G h_3 6 (se b)])) ((fun A => (va_Qv (fun (u : BT) => Q u) (fun u t => va_P G.1 gCl [oc h 6 [.ref h_0, .ref h_1, .ref h_2, .ref h_3, .int (mn u), .int (ma u), .int (yr u), .int (dw u)], ai G h_0 6 (kd u), ai G h_1 18 (pl u), ai G h_2 6 (lf u), ai G h_3 6 (se u)] t.heap ∧ va_D A [oc h 6 [.ref h_0, .ref h_1, .ref h_2, .ref h_3, .int (mn u), .int (ma u), .int (yr u), .int (dw u)], ai G h_0 6 (kd u), ai G h_1 18 (pl u), ai G h_2 6 (lf u), ai G h_3 6 (se u)]) A)) (va_A [oc h 6 [.ref h_0, .ref h_1, .ref h_2, .ref h_3, .int (mn b), .int (ma b), .int (yr b), .int (dw b)], ai G h_0 6 (kd b), ai G h_1 18 (pl b), ai G h_2 6 (lf b), ai G h_3 6 (se b)] sz)) 0 0 (va_A [oc h 6 [.ref h_0, .ref h_1, .ref h_2, .ref h_3, .int (mn b), .int (ma b), .int (yr b), .int (dw b)], ai G h_0 6 (kd b), ai G h_1 18 (pl b), ai G h_2 6 (lf b), ai G h_3 6 (se b)] sz) := by
  refine Met.ofW (cc := cX6_add) (maxL := 3) (ret := none) (by decide) rfl ?_
  intro p e s m args below meth c s₁ B hml hv
  obtain ⟨rfl, hsz, hP, hK, hD0⟩ := hv
  have hx := B.exec
  have hb := B.bytes
  have hr := B.returns
  have hts := atoms_spec (ws := (ws_ yX6_add cX6_add 3 none)) B.pre
  have hts : ∀ w ∈ lw_all, w.before _ s = true := fun w h => hts w (List.mem_cons_of_mem _ h)
  have hown : s.vm.findClass RX6 = some m.cls := findClass_of_methodNamed B.named
  have hlocks := B.notSynchronized
  subst hsz
  have hD := hD0.self (sz := s.heap.size)
  generalize hAe : va_A [oc h 6 [.ref h_0, .ref h_1, .ref h_2, .ref h_3, .int (mn b), .int (ma b), .int (yr b), .int (dw b)], ai G h_0 6 (kd b), ai G h_1 18 (pl b), ai G h_2 6 (lf b), ai G h_3 6 (se b)] s.heap.size = A at hD ⊢
  have hA : ∀ q : Nat, s.heap.size ≤ q → A q := fun q h => by rw [← hAe]; exact Or.inr h
  have hS : va_S A s.heap s.heap [] := va_S.rf
  have C : Cx p s m meth c cX6_add 3 none RX6 ([.ref h, .int p1, .int p2] : List Value).toArray G A := ⟨hx, hb, hr, hlocks, hml, hown, hts, hK, hA⟩
  have hl := lv_entry ([.ref h, .int p1, .int p2]) (n := 3) (Nat.le_of_ble_eq_true rfl)
  rw [lg_entry_eq]
  generalize (lg_sl ([.ref h, .int p1, .int p2]) ++ List.replicate (3 - (lg_sl ([.ref h, .int p1, .int p2])).length) Slot.unset).toArray = ls at hl ⊢
  have hl : lv_has ls 3 [(0, .ref h), (1, .int p1), (2, .int p2)] := hl
  unfold wp_X6_add at hw
  refine lv_aload_n hx hb dX6_add_0 rfl (lv_at hl 0 rfl) ?_
  refine va_get (D := G.1) (ci := 6) (v := .ref h_0) (C := RX6) (T := TX6) (N := 8) hx hb hts in_X6 hown hK.1 hP 0 rfl rfl 0 (by decide) (hts _ q127) (fun _ h9 => h9) rfl dX6_add_1 ?_
  refine lv_aload_n hx hb dX6_add_4 rfl (lv_at hl 0 rfl) ?_
  refine va_get (D := G.1) (ci := 6) (v := .int (mn b)) (C := RX6) (T := TX6) (N := 8) hx hb hts in_X6 hown hK.1 hP 0 rfl rfl 4 (by decide) (hts _ q135) (fun _ h9 => h9) rfl dX6_add_5 ?_
  refine lv_iload_n hx hb dX6_add_8 rfl (lv_at hl 1 rfl) ?_
  obtain ⟨i_1, hw⟩ := hw
  refine z_iast hx hb hK.1 hP hD hS 1 0 rfl rfl i_1 dX6_add_9 (k := (mn b).toNatClampNeg) rfl (fun f_2 ef_2 H locs hP hD hS => ?_)
  replace hw := hw f_2 ef_2
  have hP : va_P G.1 gCl [oc h 6 [.ref h_0, .ref h_1, .ref h_2, .ref h_3, .int (mn b), .int (ma b), .int (yr b), .int (dw b)], ai G h_0 6 f_2, ai G h_1 18 (pl b), ai G h_2 6 (lf b), ai G h_3 6 (se b)] H := hP
  have hD : va_D A [oc h 6 [.ref h_0, .ref h_1, .ref h_2, .ref h_3, .int (mn b), .int (ma b), .int (yr b), .int (dw b)], ai G h_0 6 f_2, ai G h_1 18 (pl b), ai G h_2 6 (lf b), ai G h_3 6 (se b)] := hD
  refine lv_aload_n hx hb dX6_add_10 rfl (lv_at hl 0 rfl) ?_
  refine va_get (D := G.1) (ci := 6) (v := .ref h_2) (C := RX6) (T := TX6) (N := 8) hx hb hts in_X6 hown hK.1 hP 0 rfl rfl 2 (by decide) (hts _ q131) (fun _ h9 => h9) rfl dX6_add_11 ?_
  refine lv_aload_n hx hb dX6_add_14 rfl (lv_at hl 0 rfl) ?_
  refine va_get (D := G.1) (ci := 6) (v := .int (mn b)) (C := RX6) (T := TX6) (N := 8) hx hb hts in_X6 hown hK.1 hP 0 rfl rfl 4 (by decide) (hts _ q135) (fun _ h9 => h9) rfl dX6_add_15 ?_
  refine lv_iload_n hx hb dX6_add_18 rfl (lv_at hl 2 rfl) ?_
  obtain ⟨i_3, hw⟩ := hw
  refine z_iast hx hb hK.1 hP hD hS 3 0 rfl rfl i_3 dX6_add_19 (k := (mn b).toNatClampNeg) rfl (fun f_4 ef_4 H locs hP hD hS => ?_)
  replace hw := hw f_4 ef_4
  have hP : va_P G.1 gCl [oc h 6 [.ref h_0, .ref h_1, .ref h_2, .ref h_3, .int (mn b), .int (ma b), .int (yr b), .int (dw b)], ai G h_0 6 f_2, ai G h_1 18 (pl b), ai G h_2 6 f_4, ai G h_3 6 (se b)] H := hP
  have hD : va_D A [oc h 6 [.ref h_0, .ref h_1, .ref h_2, .ref h_3, .int (mn b), .int (ma b), .int (yr b), .int (dw b)], ai G h_0 6 f_2, ai G h_1 18 (pl b), ai G h_2 6 f_4, ai G h_3 6 (se b)] := hD
  refine lv_aload_n hx hb dX6_add_20 rfl (lv_at hl 0 rfl) ?_
  refine va_get (D := G.1) (ci := 6) (v := .ref h_3) (C := RX6) (T := TX6) (N := 8) hx hb hts in_X6 hown hK.1 hP 0 rfl rfl 3 (by decide) (hts _ q133) (fun _ h9 => h9) rfl dX6_add_21 ?_
  refine lv_aload_n hx hb dX6_add_24 rfl (lv_at hl 0 rfl) ?_
  refine va_get (D := G.1) (ci := 6) (v := .int (ma b)) (C := RX6) (T := TX6) (N := 8) hx hb hts in_X6 hown hK.1 hP 0 rfl rfl 5 (by decide) (hts _ q137) (fun _ h9 => h9) rfl dX6_add_25 ?_
  refine lv_aload_n hx hb dX6_add_28 rfl (lv_at hl 0 rfl) ?_
  refine va_get (D := G.1) (ci := 6) (v := .int (mn b)) (C := RX6) (T := TX6) (N := 8) hx hb hts in_X6 hown hK.1 hP 0 rfl rfl 4 (by decide) (hts _ q135) (fun _ h9 => h9) rfl dX6_add_29 ?_
  obtain ⟨i_5, hw⟩ := hw
  refine z_iast hx hb hK.1 hP hD hS 4 0 rfl rfl i_5 dX6_add_32 (k := (ma b).toNatClampNeg) rfl (fun f_6 ef_6 H locs hP hD hS => ?_)
  replace hw := hw f_6 ef_6
  have hP : va_P G.1 gCl [oc h 6 [.ref h_0, .ref h_1, .ref h_2, .ref h_3, .int (mn b), .int (ma b), .int (yr b), .int (dw b)], ai G h_0 6 f_2, ai G h_1 18 (pl b), ai G h_2 6 f_4, ai G h_3 6 f_6] H := hP
  have hD : va_D A [oc h 6 [.ref h_0, .ref h_1, .ref h_2, .ref h_3, .int (mn b), .int (ma b), .int (yr b), .int (dw b)], ai G h_0 6 f_2, ai G h_1 18 (pl b), ai G h_2 6 f_4, ai G h_3 6 f_6] := hD
  refine lv_aload_n hx hb dX6_add_33 rfl (lv_at hl 0 rfl) ?_
  refine lv_dup hx hb dX6_add_34 rfl ?_
  refine va_get (D := G.1) (ci := 6) (v := .int (ma b)) (C := RX6) (T := TX6) (N := 8) hx hb hts in_X6 hown hK.1 hP 0 rfl rfl 5 (by decide) (hts _ q137) (fun _ h9 => h9) rfl dX6_add_35 ?_
  refine lv_iconst (v := (1 : Int32)) hx hb dX6_add_38 (by decide) ?_
  refine lv_iadd hx hb dX6_add_39 ?_
  refine lv_topi (fun v_7 ev_7 => ?_)
  replace hw := hw v_7 ev_7
  refine va_put (D := G.1) (ci := 6) (v := .int v_7) (ty := .int) (C := RX6) (T := TX6) (N := 8) hx hb hts in_X6 tyX6 tyX6_ok nmX6 hown hK.1 hP hD hS 0 rfl rfl 5 (by decide) (hts _ q137) (fun _ h9 => h9) rfl (by decide +kernel) rfl rfl (Nat.le_of_ble_eq_true rfl) dX6_add_40 (fun H locs hP hD hS => ?_)
  have hP : va_P G.1 gCl [oc h 6 [.ref h_0, .ref h_1, .ref h_2, .ref h_3, .int (mn b), .int v_7, .int (yr b), .int (dw b)], ai G h_0 6 f_2, ai G h_1 18 (pl b), ai G h_2 6 f_4, ai G h_3 6 f_6] H := hP
  have hD : va_D A [oc h 6 [.ref h_0, .ref h_1, .ref h_2, .ref h_3, .int (mn b), .int v_7, .int (yr b), .int (dw b)], ai G h_0 6 f_2, ai G h_1 18 (pl b), ai G h_2 6 f_4, ai G h_3 6 f_6] := hD
  refine lv_aload_n hx hb dX6_add_43 rfl (lv_at hl 0 rfl) ?_
  refine lv_dup hx hb dX6_add_44 rfl ?_
  refine va_get (D := G.1) (ci := 6) (v := .int (mn b)) (C := RX6) (T := TX6) (N := 8) hx hb hts in_X6 hown hK.1 hP 0 rfl rfl 4 (by decide) (hts _ q135) (fun _ h9 => h9) rfl dX6_add_45 ?_
  refine lv_iconst (v := (1 : Int32)) hx hb dX6_add_48 (by decide) ?_
  refine lv_iadd hx hb dX6_add_49 ?_
  refine lv_topi (fun v_8 ev_8 => ?_)
  replace hw := hw v_8 ev_8
  refine va_put (D := G.1) (ci := 6) (v := .int v_8) (ty := .int) (C := RX6) (T := TX6) (N := 8) hx hb hts in_X6 tyX6 tyX6_ok nmX6 hown hK.1 hP hD hS 0 rfl rfl 4 (by decide) (hts _ q135) (fun _ h9 => h9) rfl (by decide +kernel) rfl rfl (Nat.le_of_ble_eq_true rfl) dX6_add_50 (fun H locs hP hD hS => ?_)
  have hP : va_P G.1 gCl [oc h 6 [.ref h_0, .ref h_1, .ref h_2, .ref h_3, .int v_8, .int v_7, .int (yr b), .int (dw b)], ai G h_0 6 f_2, ai G h_1 18 (pl b), ai G h_2 6 f_4, ai G h_3 6 f_6] H := hP
  have hD : va_D A [oc h 6 [.ref h_0, .ref h_1, .ref h_2, .ref h_3, .int v_8, .int v_7, .int (yr b), .int (dw b)], ai G h_0 6 f_2, ai G h_1 18 (pl b), ai G h_2 6 f_4, ai G h_3 6 f_6] := hD
  have hP9 := hP
  have hD9 := hD
  exact W.vret hx hb hr (fun t ht hW => ⟨⟨(f_2, (pl b), f_4, f_6, v_8, v_7, (yr b), (dw b)), rfl, hw, by rw [ht]; exact hP9, hD9⟩, hS.F ht⟩) hS.2.2 dX6_add_53

/-! BattleBench.Bench.onBench()I -/
def wp_X6_onBench_4 (b : BT) (Q : Int32 → Prop)  : Nat → Int32 → Int32 → Prop
  | 0, _, _ => False
  | n + 1, x1, x2 =>
    ((((ma b) ≤ x2) → Q x1) ∧ (¬ ((ma b) ≤ x2) → (vp_in x2 6 ∧ (∀ v_3 : Int32, v_3 = (x1 ||| ((1 : Int32) <<< (((se b) x2.toNatClampNeg) &&& 31))) → wp_X6_onBench_4 b Q  n v_3 (x2 + (1 : Int32))))))
set_option maxHeartbeats 4000000 in
theorem wk_X6_onBench_4 {p : Program} {l : Launch} {e : Env} {s : State} {m : MethodId} {below : List Frame} {meth : Method} {c : Code} {args : Array Value} {G : GT} {A : Nat → Prop} (h h_0 h_1 h_2 h_3 : Nat) (b : BT) (Q : Int32 → Prop)  (C : Cx p s m meth c cX6_onBench 3 (some .int) RX6 args G A)  :
    ∀ (n : Nat), ∀  (x1 : Int32) (x2 : Int32) (H : Heap) (locs : List Loc), va_P G.1 gCl [oc h 6 [.ref h_0, .ref h_1, .ref h_2, .ref h_3, .int (mn b), .int (ma b), .int (yr b), .int (dw b)], ai G h_0 6 (kd b), ai G h_1 18 (pl b), ai G h_2 6 (lf b), ai G h_3 6 (se b)] H → va_D A [oc h 6 [.ref h_0, .ref h_1, .ref h_2, .ref h_3, .int (mn b), .int (ma b), .int (yr b), .int (dw b)], ai G h_0 6 (kd b), ai G h_1 18 (pl b), ai G h_2 6 (lf b), ai G h_3 6 (se b)] → va_S A s.heap H locs → ∀ (ls : Array Slot), lv_has ls 3 [(0, .ref h), (1, .int x1), (2, .int x2)] → wp_X6_onBench_4 b Q  n x1 x2 → W p l e ({ frames := 0, cells := 0, slots := 0, locals := 0 } : Room) s m args below meth c H locs 0 0 (MQ below (va_Qi (fun (r : Int32) (u : Unit) => Q r ) (fun u t => va_P G.1 gCl [oc h 6 [.ref h_0, .ref h_1, .ref h_2, .ref h_3, .int (mn b), .int (ma b), .int (yr b), .int (dw b)], ai G h_0 6 (kd b), ai G h_1 18 (pl b), ai G h_2 6 (lf b), ai G h_3 6 (se b)] t.heap ∧ va_D A [oc h 6 [.ref h_0, .ref h_1, .ref h_2, .ref h_3, .int (mn b), .int (ma b), .int (yr b), .int (dw b)], ai G h_0 6 (kd b), ai G h_1 18 (pl b), ai G h_2 6 (lf b), ai G h_3 6 (se b)]) A) args s 0 0 A) (F0 m 4 ls []) := by
  have C9 := C
  obtain ⟨hx, hb, hr, hlocks, hml, hown, hts, hK, hA⟩ := C9
  intro n
  induction n with
  | zero => intro x1 x2 H locs hP hD hS ls hl hw; exact False.elim hw
  | succ n ih =>
    intro x1 x2 H locs hP hD hS ls hl hw
    unfold wp_X6_onBench_4 at hw
    refine lv_iload_n hx hb dX6_onBench_4 rfl (lv_at hl 2 rfl) ?_
    refine lv_aload_n hx hb dX6_onBench_5 rfl (lv_at hl 0 rfl) ?_
    refine va_get (D := G.1) (ci := 6) (v := .int (ma b)) (C := RX6) (T := TX6) (N := 8) hx hb hts in_X6 hown hK.1 hP 0 rfl rfl 5 (by decide) (hts _ q137) (fun _ h9 => h9) rfl dX6_onBench_6 ?_
    refine lv_icmp_ge (tgt := 29) hx hb dX6_onBench_9 (by decide) (fun c_1 => ?_) (fun c_1 => ?_)
    · replace hw := hw.1 c_1
      refine lv_iload_n hx hb dX6_onBench_29 rfl (lv_at hl 1 rfl) ?_
      have hP9 := hP
      have hD9 := hD
      exact W.iret (v := x1) hx hb hr (fun t ht hW => ⟨⟨x1, (), rfl, hw, by rw [ht]; exact hP9, hD9⟩, hS.F ht⟩) hS.2.2 dX6_onBench_30
    · replace hw := hw.2 c_1
      refine lv_iload_n hx hb dX6_onBench_12 rfl (lv_at hl 1 rfl) ?_
      refine lv_iconst (v := (1 : Int32)) hx hb dX6_onBench_13 (by decide) ?_
      refine lv_aload_n hx hb dX6_onBench_14 rfl (lv_at hl 0 rfl) ?_
      refine va_get (D := G.1) (ci := 6) (v := .ref h_3) (C := RX6) (T := TX6) (N := 8) hx hb hts in_X6 hown hK.1 hP 0 rfl rfl 3 (by decide) (hts _ q133) (fun _ h9 => h9) rfl dX6_onBench_15 ?_
      refine lv_iload_n hx hb dX6_onBench_18 rfl (lv_at hl 2 rfl) ?_
      obtain ⟨i_2, hw⟩ := hw
      refine z_iald hx hb hK.1 hP 4 0 rfl rfl i_2 dX6_onBench_19 (k := x2.toNatClampNeg) rfl ?_
      refine lv_ishl hx hb dX6_onBench_20 ?_
      refine lv_ior hx hb dX6_onBench_21 ?_
      refine lv_topi (fun v_3 ev_3 => ?_)
      replace hw := hw v_3 ev_3
      refine lv_istore_n (lv' := [(1, .int v_3), (0, .ref h), (2, .int x2)]) hx hb dX6_onBench_22 rfl hl (by decide) rfl (fun ls hl => ?_)
      refine lv_iinc (v := (x2 + (1 : Int32))) (lv' := [(2, .int (x2 + (1 : Int32))), (1, .int v_3), (0, .ref h)]) hx hb dX6_onBench_23 hl (k := 2) rfl rfl (by decide) rfl (fun ls hl => ?_)
      refine lv_goto (tgt := 4) hx hb dX6_onBench_26 (by decide) ?_
      exact ih v_3 (x2 + (1 : Int32)) H locs hP hD hS ls (lv_sub hl [2, 1, 0] rfl) hw
def wp_X6_onBench (b : BT) (Q : Int32 → Prop) : Prop :=
  (∃ j_ : Nat, wp_X6_onBench_4 b Q  j_ (0 : Int32) (0 : Int32))
set_option maxHeartbeats 4000000 in
theorem mt_X6_onBench (l : Launch) (G : GT) (h h_0 h_1 h_2 h_3 : Nat) (sz : Nat) (b : BT) (Q : Int32 → Prop) (hw : wp_X6_onBench b Q) : Met l yX6_onBench (ws_ yX6_onBench cX6_onBench 3 (some .int)) ({ frames := 0, cells := 0, slots := 0, locals := 0 } : Room) (va_Pc [.ref h] (fun U => U.heap.size = sz ∧ va_P G.1 gCl [oc h 6 [.ref h_0, .ref h_1, .ref h_2, .ref h_3, .int (mn b), .int (ma b), .int (yr b), .int (dw b)], ai G h_0 6 (kd b), ai G h_1 18 (pl b), ai G h_2 6 (lf b), ai G h_3 6 (se b)] U.heap ∧ gK G U ∧ va_D (fun _ => True) [oc h 6 [.ref h_0, .ref h_1, .ref h_2, .ref h_3, .int (mn b), .int (ma b), .int (yr b), .int (dw b)], ai G h_0 6 (kd b), ai G h_1 18 (pl b), ai G h_2 6 (lf b), ai G h_3 6 (se b)])) ((fun A => (va_Qi (fun (r : Int32) (u : Unit) => Q r ) (fun u t => va_P G.1 gCl [oc h 6 [.ref h_0, .ref h_1, .ref h_2, .ref h_3, .int (mn b), .int (ma b), .int (yr b), .int (dw b)], ai G h_0 6 (kd b), ai G h_1 18 (pl b), ai G h_2 6 (lf b), ai G h_3 6 (se b)] t.heap ∧ va_D A [oc h 6 [.ref h_0, .ref h_1, .ref h_2, .ref h_3, .int (mn b), .int (ma b), .int (yr b), .int (dw b)], ai G h_0 6 (kd b), ai G h_1 18 (pl b), ai G h_2 6 (lf b), ai G h_3 6 (se b)]) A)) (va_A [oc h 6 [.ref h_0, .ref h_1, .ref h_2, .ref h_3, .int (mn b), .int (ma b), .int (yr b), .int (dw b)], ai G h_0 6 (kd b), ai G h_1 18 (pl b), ai G h_2 6 (lf b), ai G h_3 6 (se b)] sz)) 0 0 (va_A [oc h 6 [.ref h_0, .ref h_1, .ref h_2, .ref h_3, .int (mn b), .int (ma b), .int (yr b), .int (dw b)], ai G h_0 6 (kd b), ai G h_1 18 (pl b), ai G h_2 6 (lf b), ai G h_3 6 (se b)] sz) := by
  refine Met.ofW (cc := cX6_onBench) (maxL := 3) (ret := (some .int)) (by decide) rfl ?_
  intro p e s m args below meth c s₁ B hml hv
  obtain ⟨rfl, hsz, hP, hK, hD0⟩ := hv
  have hx := B.exec
  have hb := B.bytes
  have hr := B.returns
  have hts := atoms_spec (ws := (ws_ yX6_onBench cX6_onBench 3 (some .int))) B.pre
  have hts : ∀ w ∈ lw_all, w.before _ s = true := fun w h => hts w (List.mem_cons_of_mem _ h)
  have hown : s.vm.findClass RX6 = some m.cls := findClass_of_methodNamed B.named
  have hlocks := B.notSynchronized
  subst hsz
  have hD := hD0.self (sz := s.heap.size)
  generalize hAe : va_A [oc h 6 [.ref h_0, .ref h_1, .ref h_2, .ref h_3, .int (mn b), .int (ma b), .int (yr b), .int (dw b)], ai G h_0 6 (kd b), ai G h_1 18 (pl b), ai G h_2 6 (lf b), ai G h_3 6 (se b)] s.heap.size = A at hD ⊢
  have hA : ∀ q : Nat, s.heap.size ≤ q → A q := fun q h => by rw [← hAe]; exact Or.inr h
  have hS : va_S A s.heap s.heap [] := va_S.rf
  have C : Cx p s m meth c cX6_onBench 3 (some .int) RX6 ([.ref h] : List Value).toArray G A := ⟨hx, hb, hr, hlocks, hml, hown, hts, hK, hA⟩
  have hl := lv_entry ([.ref h]) (n := 3) (Nat.le_of_ble_eq_true rfl)
  rw [lg_entry_eq]
  generalize (lg_sl ([.ref h]) ++ List.replicate (3 - (lg_sl ([.ref h])).length) Slot.unset).toArray = ls at hl ⊢
  have hl : lv_has ls 3 [(0, .ref h)] := hl
  unfold wp_X6_onBench at hw
  refine lv_iconst (v := (0 : Int32)) hx hb dX6_onBench_0 (by decide) ?_
  refine lv_istore_n (lv' := [(1, .int (0 : Int32)), (0, .ref h)]) hx hb dX6_onBench_1 rfl hl (by decide) rfl (fun ls hl => ?_)
  refine lv_iconst (v := (0 : Int32)) hx hb dX6_onBench_2 (by decide) ?_
  refine lv_istore_n (lv' := [(2, .int (0 : Int32)), (1, .int (0 : Int32)), (0, .ref h)]) hx hb dX6_onBench_3 rfl hl (by decide) rfl (fun ls hl => ?_)
  obtain ⟨j_, hw⟩ := hw
  exact wk_X6_onBench_4 h h_0 h_1 h_2 h_3 b  Q  C  j_ (0 : Int32) (0 : Int32) s.heap [] hP hD hS ls (lv_sub hl [2, 1, 0] rfl) hw

/-! BattleBench.Bench.seatOf(I)I -/
def wp_X6_seatOf_2 (b : BT) (p1 : Int32) (Q : Int32 → Prop)  : Nat → Int32 → Prop
  | 0, _ => False
  | n + 1, x2 =>
    ((((ma b) ≤ x2) → Q (-4 : Int32)) ∧ (¬ ((ma b) ≤ x2) → (vp_in x2 6 ∧ ((¬ (((se b) x2.toNatClampNeg) = p1) → wp_X6_seatOf_2 b p1 Q  n (x2 + (1 : Int32))) ∧ ((((se b) x2.toNatClampNeg) = p1) → Q x2)))))
set_option maxHeartbeats 4000000 in
theorem wk_X6_seatOf_2 {p : Program} {l : Launch} {e : Env} {s : State} {m : MethodId} {below : List Frame} {meth : Method} {c : Code} {args : Array Value} {G : GT} {A : Nat → Prop} (h h_0 h_1 h_2 h_3 : Nat) (b : BT) (p1 : Int32) (Q : Int32 → Prop)  (C : Cx p s m meth c cX6_seatOf 3 (some .int) RX6 args G A)  :
    ∀ (n : Nat), ∀  (x2 : Int32) (H : Heap) (locs : List Loc), va_P G.1 gCl [oc h 6 [.ref h_0, .ref h_1, .ref h_2, .ref h_3, .int (mn b), .int (ma b), .int (yr b), .int (dw b)], ai G h_0 6 (kd b), ai G h_1 18 (pl b), ai G h_2 6 (lf b), ai G h_3 6 (se b)] H → va_D A [oc h 6 [.ref h_0, .ref h_1, .ref h_2, .ref h_3, .int (mn b), .int (ma b), .int (yr b), .int (dw b)], ai G h_0 6 (kd b), ai G h_1 18 (pl b), ai G h_2 6 (lf b), ai G h_3 6 (se b)] → va_S A s.heap H locs → ∀ (ls : Array Slot), lv_has ls 3 [(0, .ref h), (1, .int p1), (2, .int x2)] → wp_X6_seatOf_2 b p1 Q  n x2 → W p l e ({ frames := 0, cells := 0, slots := 0, locals := 0 } : Room) s m args below meth c H locs 0 0 (MQ below (va_Qi (fun (r : Int32) (u : Unit) => Q r ) (fun u t => va_P G.1 gCl [oc h 6 [.ref h_0, .ref h_1, .ref h_2, .ref h_3, .int (mn b), .int (ma b), .int (yr b), .int (dw b)], ai G h_0 6 (kd b), ai G h_1 18 (pl b), ai G h_2 6 (lf b), ai G h_3 6 (se b)] t.heap ∧ va_D A [oc h 6 [.ref h_0, .ref h_1, .ref h_2, .ref h_3, .int (mn b), .int (ma b), .int (yr b), .int (dw b)], ai G h_0 6 (kd b), ai G h_1 18 (pl b), ai G h_2 6 (lf b), ai G h_3 6 (se b)]) A) args s 0 0 A) (F0 m 2 ls []) := by
  have C9 := C
  obtain ⟨hx, hb, hr, hlocks, hml, hown, hts, hK, hA⟩ := C9
  intro n
  induction n with
  | zero => intro x2 H locs hP hD hS ls hl hw; exact False.elim hw
  | succ n ih =>
    intro x2 H locs hP hD hS ls hl hw
    unfold wp_X6_seatOf_2 at hw
    refine lv_iload_n hx hb dX6_seatOf_2 rfl (lv_at hl 2 rfl) ?_
    refine lv_aload_n hx hb dX6_seatOf_3 rfl (lv_at hl 0 rfl) ?_
    refine va_get (D := G.1) (ci := 6) (v := .int (ma b)) (C := RX6) (T := TX6) (N := 8) hx hb hts in_X6 hown hK.1 hP 0 rfl rfl 5 (by decide) (hts _ q137) (fun _ h9 => h9) rfl dX6_seatOf_4 ?_
    refine lv_icmp_ge (tgt := 28) hx hb dX6_seatOf_7 (by decide) (fun c_1 => ?_) (fun c_1 => ?_)
    · replace hw := hw.1 c_1
      refine lv_bipush (v := (-4 : Int32)) hx hb dX6_seatOf_28 (by decide) ?_
      have hP9 := hP
      have hD9 := hD
      exact W.iret (v := (-4 : Int32)) hx hb hr (fun t ht hW => ⟨⟨(-4 : Int32), (), rfl, hw, by rw [ht]; exact hP9, hD9⟩, hS.F ht⟩) hS.2.2 dX6_seatOf_30
    · replace hw := hw.2 c_1
      refine lv_aload_n hx hb dX6_seatOf_10 rfl (lv_at hl 0 rfl) ?_
      refine va_get (D := G.1) (ci := 6) (v := .ref h_3) (C := RX6) (T := TX6) (N := 8) hx hb hts in_X6 hown hK.1 hP 0 rfl rfl 3 (by decide) (hts _ q133) (fun _ h9 => h9) rfl dX6_seatOf_11 ?_
      refine lv_iload_n hx hb dX6_seatOf_14 rfl (lv_at hl 2 rfl) ?_
      obtain ⟨i_2, hw⟩ := hw
      refine z_iald hx hb hK.1 hP 4 0 rfl rfl i_2 dX6_seatOf_15 (k := x2.toNatClampNeg) rfl ?_
      refine lv_iload_n hx hb dX6_seatOf_16 rfl (lv_at hl 1 rfl) ?_
      refine lv_icmp_ne (tgt := 22) hx hb dX6_seatOf_17 (by decide) (fun c_3 => ?_) (fun c_3 => ?_)
      · replace hw := hw.1 c_3
        refine lv_iinc (v := (x2 + (1 : Int32))) (lv' := [(2, .int (x2 + (1 : Int32))), (0, .ref h), (1, .int p1)]) hx hb dX6_seatOf_22 hl (k := 2) rfl rfl (by decide) rfl (fun ls hl => ?_)
        refine lv_goto (tgt := 2) hx hb dX6_seatOf_25 (by decide) ?_
        exact ih (x2 + (1 : Int32)) H locs hP hD hS ls (lv_sub hl [1, 2, 0] rfl) hw
      · replace hw := hw.2 c_3
        refine lv_iload_n hx hb dX6_seatOf_20 rfl (lv_at hl 2 rfl) ?_
        have hP9 := hP
        have hD9 := hD
        exact W.iret (v := x2) hx hb hr (fun t ht hW => ⟨⟨x2, (), rfl, hw, by rw [ht]; exact hP9, hD9⟩, hS.F ht⟩) hS.2.2 dX6_seatOf_21
def wp_X6_seatOf (b : BT) (p1 : Int32) (Q : Int32 → Prop) : Prop :=
  (∃ j_ : Nat, wp_X6_seatOf_2 b p1 Q  j_ (0 : Int32))
set_option maxHeartbeats 4000000 in
theorem mt_X6_seatOf (l : Launch) (G : GT) (h h_0 h_1 h_2 h_3 : Nat) (sz : Nat) (b : BT) (p1 : Int32) (Q : Int32 → Prop) (hw : wp_X6_seatOf b p1 Q) : Met l yX6_seatOf (ws_ yX6_seatOf cX6_seatOf 3 (some .int)) ({ frames := 0, cells := 0, slots := 0, locals := 0 } : Room) (va_Pc [.ref h, .int p1] (fun U => U.heap.size = sz ∧ va_P G.1 gCl [oc h 6 [.ref h_0, .ref h_1, .ref h_2, .ref h_3, .int (mn b), .int (ma b), .int (yr b), .int (dw b)], ai G h_0 6 (kd b), ai G h_1 18 (pl b), ai G h_2 6 (lf b), ai G h_3 6 (se b)] U.heap ∧ gK G U ∧ va_D (fun _ => True) [oc h 6 [.ref h_0, .ref h_1, .ref h_2, .ref h_3, .int (mn b), .int (ma b), .int (yr b), .int (dw b)], ai G h_0 6 (kd b), ai G h_1 18 (pl b), ai G h_2 6 (lf b), ai G h_3 6 (se b)])) ((fun A => (va_Qi (fun (r : Int32) (u : Unit) => Q r ) (fun u t => va_P G.1 gCl [oc h 6 [.ref h_0, .ref h_1, .ref h_2, .ref h_3, .int (mn b), .int (ma b), .int (yr b), .int (dw b)], ai G h_0 6 (kd b), ai G h_1 18 (pl b), ai G h_2 6 (lf b), ai G h_3 6 (se b)] t.heap ∧ va_D A [oc h 6 [.ref h_0, .ref h_1, .ref h_2, .ref h_3, .int (mn b), .int (ma b), .int (yr b), .int (dw b)], ai G h_0 6 (kd b), ai G h_1 18 (pl b), ai G h_2 6 (lf b), ai G h_3 6 (se b)]) A)) (va_A [oc h 6 [.ref h_0, .ref h_1, .ref h_2, .ref h_3, .int (mn b), .int (ma b), .int (yr b), .int (dw b)], ai G h_0 6 (kd b), ai G h_1 18 (pl b), ai G h_2 6 (lf b), ai G h_3 6 (se b)] sz)) 0 0 (va_A [oc h 6 [.ref h_0, .ref h_1, .ref h_2, .ref h_3, .int (mn b), .int (ma b), .int (yr b), .int (dw b)], ai G h_0 6 (kd b), ai G h_1 18 (pl b), ai G h_2 6 (lf b), ai G h_3 6 (se b)] sz) := by
  refine Met.ofW (cc := cX6_seatOf) (maxL := 3) (ret := (some .int)) (by decide) rfl ?_
  intro p e s m args below meth c s₁ B hml hv
  obtain ⟨rfl, hsz, hP, hK, hD0⟩ := hv
  have hx := B.exec
  have hb := B.bytes
  have hr := B.returns
  have hts := atoms_spec (ws := (ws_ yX6_seatOf cX6_seatOf 3 (some .int))) B.pre
  have hts : ∀ w ∈ lw_all, w.before _ s = true := fun w h => hts w (List.mem_cons_of_mem _ h)
  have hown : s.vm.findClass RX6 = some m.cls := findClass_of_methodNamed B.named
  have hlocks := B.notSynchronized
  subst hsz
  have hD := hD0.self (sz := s.heap.size)
  generalize hAe : va_A [oc h 6 [.ref h_0, .ref h_1, .ref h_2, .ref h_3, .int (mn b), .int (ma b), .int (yr b), .int (dw b)], ai G h_0 6 (kd b), ai G h_1 18 (pl b), ai G h_2 6 (lf b), ai G h_3 6 (se b)] s.heap.size = A at hD ⊢
  have hA : ∀ q : Nat, s.heap.size ≤ q → A q := fun q h => by rw [← hAe]; exact Or.inr h
  have hS : va_S A s.heap s.heap [] := va_S.rf
  have C : Cx p s m meth c cX6_seatOf 3 (some .int) RX6 ([.ref h, .int p1] : List Value).toArray G A := ⟨hx, hb, hr, hlocks, hml, hown, hts, hK, hA⟩
  have hl := lv_entry ([.ref h, .int p1]) (n := 3) (Nat.le_of_ble_eq_true rfl)
  rw [lg_entry_eq]
  generalize (lg_sl ([.ref h, .int p1]) ++ List.replicate (3 - (lg_sl ([.ref h, .int p1])).length) Slot.unset).toArray = ls at hl ⊢
  have hl : lv_has ls 3 [(0, .ref h), (1, .int p1)] := hl
  unfold wp_X6_seatOf at hw
  refine lv_iconst (v := (0 : Int32)) hx hb dX6_seatOf_0 (by decide) ?_
  refine lv_istore_n (lv' := [(2, .int (0 : Int32)), (0, .ref h), (1, .int p1)]) hx hb dX6_seatOf_1 rfl hl (by decide) rfl (fun ls hl => ?_)
  obtain ⟨j_, hw⟩ := hw
  exact wk_X6_seatOf_2 h h_0 h_1 h_2 h_3 b p1  Q  C  j_ (0 : Int32) s.heap [] hP hD hS ls (lv_sub hl [1, 2, 0] rfl) hw

/-! BattleBench.Bench.stoodAt(III)Z -/
def wp_X6_stoodAt_43 (b : BT) (p1 : Int32) (p2 : Int32) (p3 : Int32) (Q : Int32 → Prop)  : Nat → Int32 → Int32 → Int32 → Prop
  | 0, _, _, _ => False
  | n + 1, x5, x6, x7 =>
    (((x5 ≤ x7) → (z01 x6 ∧ Q x6)) ∧ (¬ (x5 ≤ x7) → (((x6 = 0) → wp_X6_stoodAt_43 b p1 p2 p3 Q  n x5 (0 : Int32) (x7 + (1 : Int32))) ∧ (¬ (x6 = 0) → wp_X6_manAt b p3 x7 (fun r_3 => (((0 ≤ r_3) → wp_X6_stoodAt_43 b p1 p2 p3 Q  n x5 (0 : Int32) (x7 + (1 : Int32))) ∧ (¬ (0 ≤ r_3) → wp_X6_stoodAt_43 b p1 p2 p3 Q  n x5 (1 : Int32) (x7 + (1 : Int32)))))))))
set_option maxHeartbeats 4000000 in
theorem wk_X6_stoodAt_43 {p : Program} {l : Launch} {e : Env} {s : State} {m : MethodId} {below : List Frame} {meth : Method} {c : Code} {args : Array Value} {G : GT} {A : Nat → Prop} (h h_0 h_1 h_2 h_3 : Nat) (b : BT) (p1 : Int32) (p2 : Int32) (p3 : Int32) (Q : Int32 → Prop)  (C : Cx p s m meth c cX6_stoodAt 8 (some .boolean) RX6 args G A)  :
    ∀ (n : Nat), ∀  (x5 : Int32) (x6 : Int32) (x7 : Int32) (H : Heap) (locs : List Loc), va_P G.1 gCl [oc h 6 [.ref h_0, .ref h_1, .ref h_2, .ref h_3, .int (mn b), .int (ma b), .int (yr b), .int (dw b)], ai G h_0 6 (kd b), ai G h_1 18 (pl b), ai G h_2 6 (lf b), ai G h_3 6 (se b)] H → va_D A [oc h 6 [.ref h_0, .ref h_1, .ref h_2, .ref h_3, .int (mn b), .int (ma b), .int (yr b), .int (dw b)], ai G h_0 6 (kd b), ai G h_1 18 (pl b), ai G h_2 6 (lf b), ai G h_3 6 (se b)] → va_S A s.heap H locs → ∀ (ls : Array Slot), lv_has ls 8 [(0, .ref h), (3, .int p3), (5, .int x5), (6, .int x6), (7, .int x7)] → wp_X6_stoodAt_43 b p1 p2 p3 Q  n x5 x6 x7 → W p l e ({ frames := 2, cells := 0, slots := 0, locals := 64 } : Room) s m args below meth c H locs 0 0 (MQ below (va_Qi (fun (r : Int32) (u : Unit) => Q r ) (fun u t => va_P G.1 gCl [oc h 6 [.ref h_0, .ref h_1, .ref h_2, .ref h_3, .int (mn b), .int (ma b), .int (yr b), .int (dw b)], ai G h_0 6 (kd b), ai G h_1 18 (pl b), ai G h_2 6 (lf b), ai G h_3 6 (se b)] t.heap ∧ va_D A [oc h 6 [.ref h_0, .ref h_1, .ref h_2, .ref h_3, .int (mn b), .int (ma b), .int (yr b), .int (dw b)], ai G h_0 6 (kd b), ai G h_1 18 (pl b), ai G h_2 6 (lf b), ai G h_3 6 (se b)]) A) args s 0 0 A) (F0 m 43 ls []) := by
  have C9 := C
  obtain ⟨hx, hb, hr, hlocks, hml, hown, hts, hK, hA⟩ := C9
  intro n
  induction n with
  | zero => intro x5 x6 x7 H locs hP hD hS ls hl hw; exact False.elim hw
  | succ n ih =>
    intro x5 x6 x7 H locs hP hD hS ls hl hw
    unfold wp_X6_stoodAt_43 at hw
    refine lv_iload hx hb dX6_stoodAt_43 (lv_at hl 4 rfl) ?_
    refine lv_iload hx hb dX6_stoodAt_45 (lv_at hl 2 rfl) ?_
    refine lv_icmp_ge (tgt := 78) hx hb dX6_stoodAt_47 (by decide) (fun c_1 => ?_) (fun c_1 => ?_)
    · replace hw := hw.1 c_1
      refine lv_iload hx hb dX6_stoodAt_78 (lv_at hl 3 rfl) ?_
      obtain ⟨hz, hw⟩ := hw
      have hP9 := hP
      have hD9 := hD
      exact W.zret (v := x6) hx hb hr (z01.nar hz) (fun t ht hW => ⟨⟨x6, (), rfl, hw, by rw [ht]; exact hP9, hD9⟩, hS.F ht⟩) hS.2.2 dX6_stoodAt_80
    · replace hw := hw.2 c_1
      refine lv_iload hx hb dX6_stoodAt_50 (lv_at hl 3 rfl) ?_
      refine lv_if_eq (tgt := 69) hx hb dX6_stoodAt_52 (by decide) (fun c_2 => ?_) (fun c_2 => ?_)
      · replace hw := hw.1 c_2
        refine lv_iconst (v := (0 : Int32)) hx hb dX6_stoodAt_69 (by decide) ?_
        refine lv_istore (lv' := [(6, .int (0 : Int32)), (0, .ref h), (3, .int p3), (5, .int x5), (7, .int x7)]) hx hb dX6_stoodAt_70 hl (by decide) rfl (fun ls hl => ?_)
        refine lv_iinc (v := (x7 + (1 : Int32))) (lv' := [(7, .int (x7 + (1 : Int32))), (6, .int (0 : Int32)), (0, .ref h), (3, .int p3), (5, .int x5)]) hx hb dX6_stoodAt_72 hl (k := 4) rfl rfl (by decide) rfl (fun ls hl => ?_)
        refine lv_goto (tgt := 43) hx hb dX6_stoodAt_75 (by decide) ?_
        exact ih x5 (0 : Int32) (x7 + (1 : Int32)) H locs hP hD hS ls (lv_sub hl [2, 3, 4, 1, 0] rfl) hw
      · replace hw := hw.2 c_2
        refine lv_aload_n hx hb dX6_stoodAt_55 rfl (lv_at hl 0 rfl) ?_
        refine lv_iload_n hx hb dX6_stoodAt_56 rfl (lv_at hl 1 rfl) ?_
        refine lv_iload hx hb dX6_stoodAt_57 (lv_at hl 4 rfl) ?_
        have hPc := hP.sub (ws' := [oc h 6 [.ref h_0, .ref h_1, .ref h_2, .ref h_3, .int (mn b), .int (ma b), .int (yr b), .int (dw b)], ai G h_0 6 (kd b), ai G h_1 18 (pl b), ai G h_2 6 (lf b), ai G h_3 6 (se b)]) [0, 1, 2, 3, 4] rfl
        have hDc := hD.sub (ws' := [oc h 6 [.ref h_0, .ref h_1, .ref h_2, .ref h_3, .int (mn b), .int (ma b), .int (yr b), .int (dw b)], ai G h_0 6 (kd b), ai G h_1 18 (pl b), ai G h_2 6 (lf b), ai G h_3 6 (se b)]) [0, 1, 2, 3, 4] (by decide) rfl
        have hFc := va_free (wc := [oc h 6 [.ref h_0, .ref h_1, .ref h_2, .ref h_3, .int (mn b), .int (ma b), .int (yr b), .int (dw b)], ai G h_0 6 (kd b), ai G h_1 18 (pl b), ai G h_2 6 (lf b), ai G h_3 6 (se b)]) hD hS hA [0, 1, 2, 3, 4] rfl
        refine va_calli (va_runV (As := [.int p3, .int x7]) (rest := []) ⟨hx, hb, hml, hown, hts⟩ (mt_X6_manAt l G h h_0 h_1 h_2 h_3 H.size b p3 x7 _ hw) (cwV 2 hts (lw_V q372 q321 q322 q60 q323) rfl rfl rfl (by decide +kernel) ⟨Nat.le_of_ble_eq_true rfl, Nat.le_of_ble_eq_true rfl⟩) ⟨fun a U g mk q => by obtain ⟨q0, q1, qP, qK, qD⟩ := q; exact ⟨q0, q1, qP, qK.call, qD⟩, va_recv hK.1 hP (ci := 6) (q0 := 0) rfl rfl, fun U hU hW => ⟨rfl, by rw [hU], by rw [hU]; exact hPc, hK.warm hW, hDc.weaken (fun _ _ _ _ => trivial)⟩⟩ rfl rfl hl.1 rfl (lv_room (Nat.le_of_ble_eq_true rfl)) dX6_stoodAt_59 ⟨Nat.le_of_ble_eq_true rfl, Nat.le_of_ble_eq_true rfl⟩) hS (fun q _ h => hFc q h) hFc (fun r_3 _ t H1 locs ht hvm hw hB hz1 hk1 hS => ?_)
        obtain ⟨hP1, hD1⟩ := hB
        rw [ht] at hP1
        obtain ⟨hP, hD⟩ := va_join (wr := []) (w1 := [oc h 6 [.ref h_0, .ref h_1, .ref h_2, .ref h_3, .int (mn b), .int (ma b), .int (yr b), .int (dw b)], ai G h_0 6 (kd b), ai G h_1 18 (pl b), ai G h_2 6 (lf b), ai G h_3 6 (se b)]) hP hD [0, 1, 2, 3, 4] [] rfl rfl (by decide) (by decide) hk1 hFc hP1 hD1
        clear hPc hDc hFc hP1 hD1 hz1 hk1 hvm
        generalize H1 = H at hP hS ⊢
        have hP : va_P G.1 gCl [oc h 6 [.ref h_0, .ref h_1, .ref h_2, .ref h_3, .int (mn b), .int (ma b), .int (yr b), .int (dw b)], ai G h_0 6 (kd b), ai G h_1 18 (pl b), ai G h_2 6 (lf b), ai G h_3 6 (se b)] H := hP
        have hD : va_D A [oc h 6 [.ref h_0, .ref h_1, .ref h_2, .ref h_3, .int (mn b), .int (ma b), .int (yr b), .int (dw b)], ai G h_0 6 (kd b), ai G h_1 18 (pl b), ai G h_2 6 (lf b), ai G h_3 6 (se b)] := hD
        refine lv_if_ge (tgt := 69) hx hb dX6_stoodAt_62 (by decide) (fun c_4 => ?_) (fun c_4 => ?_)
        · replace hw := hw.1 c_4
          refine lv_iconst (v := (0 : Int32)) hx hb dX6_stoodAt_69 (by decide) ?_
          refine lv_istore (lv' := [(6, .int (0 : Int32)), (0, .ref h), (3, .int p3), (5, .int x5), (7, .int x7)]) hx hb dX6_stoodAt_70 hl (by decide) rfl (fun ls hl => ?_)
          refine lv_iinc (v := (x7 + (1 : Int32))) (lv' := [(7, .int (x7 + (1 : Int32))), (6, .int (0 : Int32)), (0, .ref h), (3, .int p3), (5, .int x5)]) hx hb dX6_stoodAt_72 hl (k := 4) rfl rfl (by decide) rfl (fun ls hl => ?_)
          refine lv_goto (tgt := 43) hx hb dX6_stoodAt_75 (by decide) ?_
          exact ih x5 (0 : Int32) (x7 + (1 : Int32)) H locs hP hD hS ls (lv_sub hl [2, 3, 4, 1, 0] rfl) hw
        · replace hw := hw.2 c_4
          refine lv_iconst (v := (1 : Int32)) hx hb dX6_stoodAt_65 (by decide) ?_
          refine lv_goto (tgt := 70) hx hb dX6_stoodAt_66 (by decide) ?_
          refine lv_istore (lv' := [(6, .int (1 : Int32)), (0, .ref h), (3, .int p3), (5, .int x5), (7, .int x7)]) hx hb dX6_stoodAt_70 hl (by decide) rfl (fun ls hl => ?_)
          refine lv_iinc (v := (x7 + (1 : Int32))) (lv' := [(7, .int (x7 + (1 : Int32))), (6, .int (1 : Int32)), (0, .ref h), (3, .int p3), (5, .int x5)]) hx hb dX6_stoodAt_72 hl (k := 4) rfl rfl (by decide) rfl (fun ls hl => ?_)
          refine lv_goto (tgt := 43) hx hb dX6_stoodAt_75 (by decide) ?_
          exact ih x5 (1 : Int32) (x7 + (1 : Int32)) H locs hP hD hS ls (lv_sub hl [2, 3, 4, 1, 0] rfl) hw
def wp_X6_stoodAt (b : BT) (p1 : Int32) (p2 : Int32) (p3 : Int32) (Q : Int32 → Prop) : Prop :=
  wp_X6_placeOf b p1 p3 (fun r_1 => wp_X6_placeOf b p2 p3 (fun r_2 => (∀ v_3 : Int32, v_3 = (jmin r_1 r_2) → wp_X6_placeOf b p1 p3 (fun r_4 => wp_X6_placeOf b p2 p3 (fun r_5 => (∀ v_6 : Int32, v_6 = (jmax r_4 r_5) → (∀ v_7 : Int32, v_7 = (v_3 + (1 : Int32)) → (∃ j_ : Nat, wp_X6_stoodAt_43 b p1 p2 p3 Q  j_ v_6 (1 : Int32) v_7))))))))
set_option maxHeartbeats 4000000 in
theorem mt_X6_stoodAt (l : Launch) (G : GT) (h h_0 h_1 h_2 h_3 : Nat) (sz : Nat) (b : BT) (p1 : Int32) (p2 : Int32) (p3 : Int32) (Q : Int32 → Prop) (hw : wp_X6_stoodAt b p1 p2 p3 Q) : Met l yX6_stoodAt (ws_ yX6_stoodAt cX6_stoodAt 8 (some .boolean)) ({ frames := 2, cells := 0, slots := 0, locals := 64 } : Room) (va_Pc [.ref h, .int p1, .int p2, .int p3] (fun U => U.heap.size = sz ∧ va_P G.1 gCl [oc h 6 [.ref h_0, .ref h_1, .ref h_2, .ref h_3, .int (mn b), .int (ma b), .int (yr b), .int (dw b)], ai G h_0 6 (kd b), ai G h_1 18 (pl b), ai G h_2 6 (lf b), ai G h_3 6 (se b)] U.heap ∧ gK G U ∧ va_D (fun _ => True) [oc h 6 [.ref h_0, .ref h_1, .ref h_2, .ref h_3, .int (mn b), .int (ma b), .int (yr b), .int (dw b)], ai G h_0 6 (kd b), ai G h_1 18 (pl b), ai G h_2 6 (lf b), ai G h_3 6 (se b)])) ((fun A => (va_Qi (fun (r : Int32) (u : Unit) => Q r ) (fun u t => va_P G.1 gCl [oc h 6 [.ref h_0, .ref h_1, .ref h_2, .ref h_3, .int (mn b), .int (ma b), .int (yr b), .int (dw b)], ai G h_0 6 (kd b), ai G h_1 18 (pl b), ai G h_2 6 (lf b), ai G h_3 6 (se b)] t.heap ∧ va_D A [oc h 6 [.ref h_0, .ref h_1, .ref h_2, .ref h_3, .int (mn b), .int (ma b), .int (yr b), .int (dw b)], ai G h_0 6 (kd b), ai G h_1 18 (pl b), ai G h_2 6 (lf b), ai G h_3 6 (se b)]) A)) (va_A [oc h 6 [.ref h_0, .ref h_1, .ref h_2, .ref h_3, .int (mn b), .int (ma b), .int (yr b), .int (dw b)], ai G h_0 6 (kd b), ai G h_1 18 (pl b), ai G h_2 6 (lf b), ai G h_3 6 (se b)] sz)) 0 0 (va_A [oc h 6 [.ref h_0, .ref h_1, .ref h_2, .ref h_3, .int (mn b), .int (ma b), .int (yr b), .int (dw b)], ai G h_0 6 (kd b), ai G h_1 18 (pl b), ai G h_2 6 (lf b), ai G h_3 6 (se b)] sz) := by
  refine Met.ofW (cc := cX6_stoodAt) (maxL := 8) (ret := (some .boolean)) (by decide) rfl ?_
  intro p e s m args below meth c s₁ B hml hv
  obtain ⟨rfl, hsz, hP, hK, hD0⟩ := hv
  have hx := B.exec
  have hb := B.bytes
  have hr := B.returns
  have hts := atoms_spec (ws := (ws_ yX6_stoodAt cX6_stoodAt 8 (some .boolean))) B.pre
  have hts : ∀ w ∈ lw_all, w.before _ s = true := fun w h => hts w (List.mem_cons_of_mem _ h)
  have hown : s.vm.findClass RX6 = some m.cls := findClass_of_methodNamed B.named
  have hlocks := B.notSynchronized
  subst hsz
  have hD := hD0.self (sz := s.heap.size)
  generalize hAe : va_A [oc h 6 [.ref h_0, .ref h_1, .ref h_2, .ref h_3, .int (mn b), .int (ma b), .int (yr b), .int (dw b)], ai G h_0 6 (kd b), ai G h_1 18 (pl b), ai G h_2 6 (lf b), ai G h_3 6 (se b)] s.heap.size = A at hD ⊢
  have hA : ∀ q : Nat, s.heap.size ≤ q → A q := fun q h => by rw [← hAe]; exact Or.inr h
  have hS : va_S A s.heap s.heap [] := va_S.rf
  have C : Cx p s m meth c cX6_stoodAt 8 (some .boolean) RX6 ([.ref h, .int p1, .int p2, .int p3] : List Value).toArray G A := ⟨hx, hb, hr, hlocks, hml, hown, hts, hK, hA⟩
  have hl := lv_entry ([.ref h, .int p1, .int p2, .int p3]) (n := 8) (Nat.le_of_ble_eq_true rfl)
  rw [lg_entry_eq]
  generalize (lg_sl ([.ref h, .int p1, .int p2, .int p3]) ++ List.replicate (8 - (lg_sl ([.ref h, .int p1, .int p2, .int p3])).length) Slot.unset).toArray = ls at hl ⊢
  have hl : lv_has ls 8 [(0, .ref h), (1, .int p1), (2, .int p2), (3, .int p3)] := hl
  unfold wp_X6_stoodAt at hw
  refine lv_aload_n hx hb dX6_stoodAt_0 rfl (lv_at hl 0 rfl) ?_
  refine lv_iload_n hx hb dX6_stoodAt_1 rfl (lv_at hl 1 rfl) ?_
  refine lv_iload_n hx hb dX6_stoodAt_2 rfl (lv_at hl 3 rfl) ?_
  have hPc := hP.sub (ws' := [oc h 6 [.ref h_0, .ref h_1, .ref h_2, .ref h_3, .int (mn b), .int (ma b), .int (yr b), .int (dw b)], ai G h_0 6 (kd b), ai G h_1 18 (pl b), ai G h_2 6 (lf b), ai G h_3 6 (se b)]) [0, 1, 2, 3, 4] rfl
  have hDc := hD.sub (ws' := [oc h 6 [.ref h_0, .ref h_1, .ref h_2, .ref h_3, .int (mn b), .int (ma b), .int (yr b), .int (dw b)], ai G h_0 6 (kd b), ai G h_1 18 (pl b), ai G h_2 6 (lf b), ai G h_3 6 (se b)]) [0, 1, 2, 3, 4] (by decide) rfl
  have hFc := va_free (wc := [oc h 6 [.ref h_0, .ref h_1, .ref h_2, .ref h_3, .int (mn b), .int (ma b), .int (yr b), .int (dw b)], ai G h_0 6 (kd b), ai G h_1 18 (pl b), ai G h_2 6 (lf b), ai G h_3 6 (se b)]) hD hS hA [0, 1, 2, 3, 4] rfl
  refine va_calli (va_runV (As := [.int p1, .int p3]) (rest := []) ⟨hx, hb, hml, hown, hts⟩ (mt_X6_placeOf l G h h_0 h_1 h_2 h_3 s.heap.size b p1 p3 _ hw) (cwV 2 hts (lw_V q324 q325 q326 q60 q327) rfl rfl rfl (by decide +kernel) ⟨Nat.le_of_ble_eq_true rfl, Nat.le_of_ble_eq_true rfl⟩) ⟨fun a U g mk q => by obtain ⟨q0, q1, qP, qK, qD⟩ := q; exact ⟨q0, q1, qP, qK.call, qD⟩, va_recv hK.1 hP (ci := 6) (q0 := 0) rfl rfl, fun U hU hW => ⟨rfl, by rw [hU], by rw [hU]; exact hPc, hK.warm hW, hDc.weaken (fun _ _ _ _ => trivial)⟩⟩ rfl rfl hl.1 rfl (lv_room (Nat.le_of_ble_eq_true rfl)) dX6_stoodAt_3 ⟨Nat.le_of_ble_eq_true rfl, Nat.le_of_ble_eq_true rfl⟩) hS (fun q _ h => hFc q h) hFc (fun r_1 _ t H1 locs ht hvm hw hB hz1 hk1 hS => ?_)
  obtain ⟨hP1, hD1⟩ := hB
  rw [ht] at hP1
  obtain ⟨hP, hD⟩ := va_join (wr := []) (w1 := [oc h 6 [.ref h_0, .ref h_1, .ref h_2, .ref h_3, .int (mn b), .int (ma b), .int (yr b), .int (dw b)], ai G h_0 6 (kd b), ai G h_1 18 (pl b), ai G h_2 6 (lf b), ai G h_3 6 (se b)]) hP hD [0, 1, 2, 3, 4] [] rfl rfl (by decide) (by decide) hk1 hFc hP1 hD1
  clear hPc hDc hFc hP1 hD1 hz1 hk1 hvm
  generalize H1 = H at hP hS ⊢
  have hP : va_P G.1 gCl [oc h 6 [.ref h_0, .ref h_1, .ref h_2, .ref h_3, .int (mn b), .int (ma b), .int (yr b), .int (dw b)], ai G h_0 6 (kd b), ai G h_1 18 (pl b), ai G h_2 6 (lf b), ai G h_3 6 (se b)] H := hP
  have hD : va_D A [oc h 6 [.ref h_0, .ref h_1, .ref h_2, .ref h_3, .int (mn b), .int (ma b), .int (yr b), .int (dw b)], ai G h_0 6 (kd b), ai G h_1 18 (pl b), ai G h_2 6 (lf b), ai G h_3 6 (se b)] := hD
  refine lv_aload_n hx hb dX6_stoodAt_6 rfl (lv_at hl 0 rfl) ?_
  refine lv_iload_n hx hb dX6_stoodAt_7 rfl (lv_at hl 2 rfl) ?_
  refine lv_iload_n hx hb dX6_stoodAt_8 rfl (lv_at hl 3 rfl) ?_
  have hPc := hP.sub (ws' := [oc h 6 [.ref h_0, .ref h_1, .ref h_2, .ref h_3, .int (mn b), .int (ma b), .int (yr b), .int (dw b)], ai G h_0 6 (kd b), ai G h_1 18 (pl b), ai G h_2 6 (lf b), ai G h_3 6 (se b)]) [0, 1, 2, 3, 4] rfl
  have hDc := hD.sub (ws' := [oc h 6 [.ref h_0, .ref h_1, .ref h_2, .ref h_3, .int (mn b), .int (ma b), .int (yr b), .int (dw b)], ai G h_0 6 (kd b), ai G h_1 18 (pl b), ai G h_2 6 (lf b), ai G h_3 6 (se b)]) [0, 1, 2, 3, 4] (by decide) rfl
  have hFc := va_free (wc := [oc h 6 [.ref h_0, .ref h_1, .ref h_2, .ref h_3, .int (mn b), .int (ma b), .int (yr b), .int (dw b)], ai G h_0 6 (kd b), ai G h_1 18 (pl b), ai G h_2 6 (lf b), ai G h_3 6 (se b)]) hD hS hA [0, 1, 2, 3, 4] rfl
  refine va_calli (va_runV (As := [.int p2, .int p3]) (rest := [.int r_1]) ⟨hx, hb, hml, hown, hts⟩ (mt_X6_placeOf l G h h_0 h_1 h_2 h_3 H.size b p2 p3 _ hw) (cwV 2 hts (lw_V q324 q325 q326 q60 q327) rfl rfl rfl (by decide +kernel) ⟨Nat.le_of_ble_eq_true rfl, Nat.le_of_ble_eq_true rfl⟩) ⟨fun a U g mk q => by obtain ⟨q0, q1, qP, qK, qD⟩ := q; exact ⟨q0, q1, qP, qK.call, qD⟩, va_recv hK.1 hP (ci := 6) (q0 := 0) rfl rfl, fun U hU hW => ⟨rfl, by rw [hU], by rw [hU]; exact hPc, hK.warm hW, hDc.weaken (fun _ _ _ _ => trivial)⟩⟩ rfl rfl hl.1 rfl (lv_room (Nat.le_of_ble_eq_true rfl)) dX6_stoodAt_9 ⟨Nat.le_of_ble_eq_true rfl, Nat.le_of_ble_eq_true rfl⟩) hS (fun q _ h => hFc q h) hFc (fun r_2 _ t H1 locs ht hvm hw hB hz1 hk1 hS => ?_)
  obtain ⟨hP1, hD1⟩ := hB
  rw [ht] at hP1
  obtain ⟨hP, hD⟩ := va_join (wr := []) (w1 := [oc h 6 [.ref h_0, .ref h_1, .ref h_2, .ref h_3, .int (mn b), .int (ma b), .int (yr b), .int (dw b)], ai G h_0 6 (kd b), ai G h_1 18 (pl b), ai G h_2 6 (lf b), ai G h_3 6 (se b)]) hP hD [0, 1, 2, 3, 4] [] rfl rfl (by decide) (by decide) hk1 hFc hP1 hD1
  clear hPc hDc hFc hP1 hD1 hz1 hk1 hvm
  generalize H1 = H at hP hS ⊢
  have hP : va_P G.1 gCl [oc h 6 [.ref h_0, .ref h_1, .ref h_2, .ref h_3, .int (mn b), .int (ma b), .int (yr b), .int (dw b)], ai G h_0 6 (kd b), ai G h_1 18 (pl b), ai G h_2 6 (lf b), ai G h_3 6 (se b)] H := hP
  have hD : va_D A [oc h 6 [.ref h_0, .ref h_1, .ref h_2, .ref h_3, .int (mn b), .int (ma b), .int (yr b), .int (dw b)], ai G h_0 6 (kd b), ai G h_1 18 (pl b), ai G h_2 6 (lf b), ai G h_3 6 (se b)] := hD
  refine va_mmin hx hb (hml.trans hl.1.symm) hown (hts _ q366) (hts _ q367) (hts _ q66) (hts _ q368) (Nat.le_of_ble_eq_true rfl) (Nat.le_of_ble_eq_true rfl) (Nat.le_of_ble_eq_true rfl) (Nat.le_of_ble_eq_true rfl) dX6_stoodAt_12 ?_
  refine lv_topi (fun v_3 ev_3 => ?_)
  replace hw := hw v_3 ev_3
  refine lv_istore (lv' := [(4, .int v_3), (0, .ref h), (1, .int p1), (2, .int p2), (3, .int p3)]) hx hb dX6_stoodAt_15 hl (by decide) rfl (fun ls hl => ?_)
  refine lv_aload_n hx hb dX6_stoodAt_17 rfl (lv_at hl 1 rfl) ?_
  refine lv_iload_n hx hb dX6_stoodAt_18 rfl (lv_at hl 2 rfl) ?_
  refine lv_iload_n hx hb dX6_stoodAt_19 rfl (lv_at hl 4 rfl) ?_
  have hPc := hP.sub (ws' := [oc h 6 [.ref h_0, .ref h_1, .ref h_2, .ref h_3, .int (mn b), .int (ma b), .int (yr b), .int (dw b)], ai G h_0 6 (kd b), ai G h_1 18 (pl b), ai G h_2 6 (lf b), ai G h_3 6 (se b)]) [0, 1, 2, 3, 4] rfl
  have hDc := hD.sub (ws' := [oc h 6 [.ref h_0, .ref h_1, .ref h_2, .ref h_3, .int (mn b), .int (ma b), .int (yr b), .int (dw b)], ai G h_0 6 (kd b), ai G h_1 18 (pl b), ai G h_2 6 (lf b), ai G h_3 6 (se b)]) [0, 1, 2, 3, 4] (by decide) rfl
  have hFc := va_free (wc := [oc h 6 [.ref h_0, .ref h_1, .ref h_2, .ref h_3, .int (mn b), .int (ma b), .int (yr b), .int (dw b)], ai G h_0 6 (kd b), ai G h_1 18 (pl b), ai G h_2 6 (lf b), ai G h_3 6 (se b)]) hD hS hA [0, 1, 2, 3, 4] rfl
  refine va_calli (va_runV (As := [.int p1, .int p3]) (rest := []) ⟨hx, hb, hml, hown, hts⟩ (mt_X6_placeOf l G h h_0 h_1 h_2 h_3 H.size b p1 p3 _ hw) (cwV 2 hts (lw_V q324 q325 q326 q60 q327) rfl rfl rfl (by decide +kernel) ⟨Nat.le_of_ble_eq_true rfl, Nat.le_of_ble_eq_true rfl⟩) ⟨fun a U g mk q => by obtain ⟨q0, q1, qP, qK, qD⟩ := q; exact ⟨q0, q1, qP, qK.call, qD⟩, va_recv hK.1 hP (ci := 6) (q0 := 0) rfl rfl, fun U hU hW => ⟨rfl, by rw [hU], by rw [hU]; exact hPc, hK.warm hW, hDc.weaken (fun _ _ _ _ => trivial)⟩⟩ rfl rfl hl.1 rfl (lv_room (Nat.le_of_ble_eq_true rfl)) dX6_stoodAt_20 ⟨Nat.le_of_ble_eq_true rfl, Nat.le_of_ble_eq_true rfl⟩) hS (fun q _ h => hFc q h) hFc (fun r_4 _ t H1 locs ht hvm hw hB hz1 hk1 hS => ?_)
  obtain ⟨hP1, hD1⟩ := hB
  rw [ht] at hP1
  obtain ⟨hP, hD⟩ := va_join (wr := []) (w1 := [oc h 6 [.ref h_0, .ref h_1, .ref h_2, .ref h_3, .int (mn b), .int (ma b), .int (yr b), .int (dw b)], ai G h_0 6 (kd b), ai G h_1 18 (pl b), ai G h_2 6 (lf b), ai G h_3 6 (se b)]) hP hD [0, 1, 2, 3, 4] [] rfl rfl (by decide) (by decide) hk1 hFc hP1 hD1
  clear hPc hDc hFc hP1 hD1 hz1 hk1 hvm
  generalize H1 = H at hP hS ⊢
  have hP : va_P G.1 gCl [oc h 6 [.ref h_0, .ref h_1, .ref h_2, .ref h_3, .int (mn b), .int (ma b), .int (yr b), .int (dw b)], ai G h_0 6 (kd b), ai G h_1 18 (pl b), ai G h_2 6 (lf b), ai G h_3 6 (se b)] H := hP
  have hD : va_D A [oc h 6 [.ref h_0, .ref h_1, .ref h_2, .ref h_3, .int (mn b), .int (ma b), .int (yr b), .int (dw b)], ai G h_0 6 (kd b), ai G h_1 18 (pl b), ai G h_2 6 (lf b), ai G h_3 6 (se b)] := hD
  refine lv_aload_n hx hb dX6_stoodAt_23 rfl (lv_at hl 1 rfl) ?_
  refine lv_iload_n hx hb dX6_stoodAt_24 rfl (lv_at hl 3 rfl) ?_
  refine lv_iload_n hx hb dX6_stoodAt_25 rfl (lv_at hl 4 rfl) ?_
  have hPc := hP.sub (ws' := [oc h 6 [.ref h_0, .ref h_1, .ref h_2, .ref h_3, .int (mn b), .int (ma b), .int (yr b), .int (dw b)], ai G h_0 6 (kd b), ai G h_1 18 (pl b), ai G h_2 6 (lf b), ai G h_3 6 (se b)]) [0, 1, 2, 3, 4] rfl
  have hDc := hD.sub (ws' := [oc h 6 [.ref h_0, .ref h_1, .ref h_2, .ref h_3, .int (mn b), .int (ma b), .int (yr b), .int (dw b)], ai G h_0 6 (kd b), ai G h_1 18 (pl b), ai G h_2 6 (lf b), ai G h_3 6 (se b)]) [0, 1, 2, 3, 4] (by decide) rfl
  have hFc := va_free (wc := [oc h 6 [.ref h_0, .ref h_1, .ref h_2, .ref h_3, .int (mn b), .int (ma b), .int (yr b), .int (dw b)], ai G h_0 6 (kd b), ai G h_1 18 (pl b), ai G h_2 6 (lf b), ai G h_3 6 (se b)]) hD hS hA [0, 1, 2, 3, 4] rfl
  refine va_calli (va_runV (As := [.int p2, .int p3]) (rest := [.int r_4]) ⟨hx, hb, hml, hown, hts⟩ (mt_X6_placeOf l G h h_0 h_1 h_2 h_3 H.size b p2 p3 _ hw) (cwV 2 hts (lw_V q324 q325 q326 q60 q327) rfl rfl rfl (by decide +kernel) ⟨Nat.le_of_ble_eq_true rfl, Nat.le_of_ble_eq_true rfl⟩) ⟨fun a U g mk q => by obtain ⟨q0, q1, qP, qK, qD⟩ := q; exact ⟨q0, q1, qP, qK.call, qD⟩, va_recv hK.1 hP (ci := 6) (q0 := 0) rfl rfl, fun U hU hW => ⟨rfl, by rw [hU], by rw [hU]; exact hPc, hK.warm hW, hDc.weaken (fun _ _ _ _ => trivial)⟩⟩ rfl rfl hl.1 rfl (lv_room (Nat.le_of_ble_eq_true rfl)) dX6_stoodAt_26 ⟨Nat.le_of_ble_eq_true rfl, Nat.le_of_ble_eq_true rfl⟩) hS (fun q _ h => hFc q h) hFc (fun r_5 _ t H1 locs ht hvm hw hB hz1 hk1 hS => ?_)
  obtain ⟨hP1, hD1⟩ := hB
  rw [ht] at hP1
  obtain ⟨hP, hD⟩ := va_join (wr := []) (w1 := [oc h 6 [.ref h_0, .ref h_1, .ref h_2, .ref h_3, .int (mn b), .int (ma b), .int (yr b), .int (dw b)], ai G h_0 6 (kd b), ai G h_1 18 (pl b), ai G h_2 6 (lf b), ai G h_3 6 (se b)]) hP hD [0, 1, 2, 3, 4] [] rfl rfl (by decide) (by decide) hk1 hFc hP1 hD1
  clear hPc hDc hFc hP1 hD1 hz1 hk1 hvm
  generalize H1 = H at hP hS ⊢
  have hP : va_P G.1 gCl [oc h 6 [.ref h_0, .ref h_1, .ref h_2, .ref h_3, .int (mn b), .int (ma b), .int (yr b), .int (dw b)], ai G h_0 6 (kd b), ai G h_1 18 (pl b), ai G h_2 6 (lf b), ai G h_3 6 (se b)] H := hP
  have hD : va_D A [oc h 6 [.ref h_0, .ref h_1, .ref h_2, .ref h_3, .int (mn b), .int (ma b), .int (yr b), .int (dw b)], ai G h_0 6 (kd b), ai G h_1 18 (pl b), ai G h_2 6 (lf b), ai G h_3 6 (se b)] := hD
  refine va_mmax hx hb (hml.trans hl.1.symm) hown (hts _ q369) (hts _ q370) (hts _ q66) (hts _ q371) (Nat.le_of_ble_eq_true rfl) (Nat.le_of_ble_eq_true rfl) (Nat.le_of_ble_eq_true rfl) (Nat.le_of_ble_eq_true rfl) dX6_stoodAt_29 ?_
  refine lv_topi (fun v_6 ev_6 => ?_)
  replace hw := hw v_6 ev_6
  refine lv_istore (lv' := [(5, .int v_6), (4, .int v_3), (0, .ref h), (1, .int p1), (2, .int p2), (3, .int p3)]) hx hb dX6_stoodAt_32 hl (by decide) rfl (fun ls hl => ?_)
  refine lv_iconst (v := (1 : Int32)) hx hb dX6_stoodAt_34 (by decide) ?_
  refine lv_istore (lv' := [(6, .int (1 : Int32)), (5, .int v_6), (4, .int v_3), (0, .ref h), (1, .int p1), (2, .int p2), (3, .int p3)]) hx hb dX6_stoodAt_35 hl (by decide) rfl (fun ls hl => ?_)
  refine lv_iload hx hb dX6_stoodAt_37 (lv_at hl 2 rfl) ?_
  refine lv_iconst (v := (1 : Int32)) hx hb dX6_stoodAt_39 (by decide) ?_
  refine lv_iadd hx hb dX6_stoodAt_40 ?_
  refine lv_topi (fun v_7 ev_7 => ?_)
  replace hw := hw v_7 ev_7
  refine lv_istore (lv' := [(7, .int v_7), (6, .int (1 : Int32)), (5, .int v_6), (4, .int v_3), (0, .ref h), (1, .int p1), (2, .int p2), (3, .int p3)]) hx hb dX6_stoodAt_41 hl (by decide) rfl (fun ls hl => ?_)
  obtain ⟨j_, hw⟩ := hw
  exact wk_X6_stoodAt_43 h h_0 h_1 h_2 h_3 b p1 p2 p3  Q  C  j_ v_6 (1 : Int32) v_7 H locs hP hD hS ls (lv_sub hl [4, 7, 2, 1, 0] rfl) hw

/-! BattleBench.Bench.stoodBy(II)Z -/
def wp_X6_stoodBy_5 (b : BT) (p1 : Int32) (p2 : Int32) (Q : Int32 → Prop)  : Nat → Int32 → Int32 → Prop
  | 0, _, _ => False
  | n + 1, x3, x4 =>
    ((((3 : Int32) ≤ x4) → (((p1 = p2) → Q (0 : Int32)) ∧ (¬ (p1 = p2) → (((x3 = 0) → Q (0 : Int32)) ∧ (¬ (x3 = 0) → Q (1 : Int32)))))) ∧ (¬ ((3 : Int32) ≤ x4) → ((¬ (x3 = 0) → wp_X6_stoodBy_5 b p1 p2 Q  n (1 : Int32) (x4 + (1 : Int32))) ∧ ((x3 = 0) → wp_X6_stoodAt b p1 p2 x4 (fun r_5 => (((r_5 = 0) → wp_X6_stoodBy_5 b p1 p2 Q  n (0 : Int32) (x4 + (1 : Int32))) ∧ (¬ (r_5 = 0) → wp_X6_stoodBy_5 b p1 p2 Q  n (1 : Int32) (x4 + (1 : Int32)))))))))
set_option maxHeartbeats 4000000 in
theorem wk_X6_stoodBy_5 {p : Program} {l : Launch} {e : Env} {s : State} {m : MethodId} {below : List Frame} {meth : Method} {c : Code} {args : Array Value} {G : GT} {A : Nat → Prop} (h h_0 h_1 h_2 h_3 : Nat) (b : BT) (p1 : Int32) (p2 : Int32) (Q : Int32 → Prop)  (C : Cx p s m meth c cX6_stoodBy 5 (some .boolean) RX6 args G A)  :
    ∀ (n : Nat), ∀  (x3 : Int32) (x4 : Int32) (H : Heap) (locs : List Loc), va_P G.1 gCl [oc h 6 [.ref h_0, .ref h_1, .ref h_2, .ref h_3, .int (mn b), .int (ma b), .int (yr b), .int (dw b)], ai G h_0 6 (kd b), ai G h_1 18 (pl b), ai G h_2 6 (lf b), ai G h_3 6 (se b)] H → va_D A [oc h 6 [.ref h_0, .ref h_1, .ref h_2, .ref h_3, .int (mn b), .int (ma b), .int (yr b), .int (dw b)], ai G h_0 6 (kd b), ai G h_1 18 (pl b), ai G h_2 6 (lf b), ai G h_3 6 (se b)] → va_S A s.heap H locs → ∀ (ls : Array Slot), lv_has ls 5 [(0, .ref h), (1, .int p1), (2, .int p2), (3, .int x3), (4, .int x4)] → wp_X6_stoodBy_5 b p1 p2 Q  n x3 x4 → W p l e ({ frames := 3, cells := 0, slots := 0, locals := 91 } : Room) s m args below meth c H locs 0 0 (MQ below (va_Qi (fun (r : Int32) (u : Unit) => Q r ) (fun u t => va_P G.1 gCl [oc h 6 [.ref h_0, .ref h_1, .ref h_2, .ref h_3, .int (mn b), .int (ma b), .int (yr b), .int (dw b)], ai G h_0 6 (kd b), ai G h_1 18 (pl b), ai G h_2 6 (lf b), ai G h_3 6 (se b)] t.heap ∧ va_D A [oc h 6 [.ref h_0, .ref h_1, .ref h_2, .ref h_3, .int (mn b), .int (ma b), .int (yr b), .int (dw b)], ai G h_0 6 (kd b), ai G h_1 18 (pl b), ai G h_2 6 (lf b), ai G h_3 6 (se b)]) A) args s 0 0 A) (F0 m 5 ls []) := by
  have C9 := C
  obtain ⟨hx, hb, hr, hlocks, hml, hown, hts, hK, hA⟩ := C9
  intro n
  induction n with
  | zero => intro x3 x4 H locs hP hD hS ls hl hw; exact False.elim hw
  | succ n ih =>
    intro x3 x4 H locs hP hD hS ls hl hw
    unfold wp_X6_stoodBy_5 at hw
    refine lv_iload hx hb dX6_stoodBy_5 (lv_at hl 4 rfl) ?_
    refine lv_iconst (v := (3 : Int32)) hx hb dX6_stoodBy_7 (by decide) ?_
    refine lv_icmp_ge (tgt := 38) hx hb dX6_stoodBy_8 (by decide) (fun c_1 => ?_) (fun c_1 => ?_)
    · replace hw := hw.1 c_1
      refine lv_iload_n hx hb dX6_stoodBy_38 rfl (lv_at hl 1 rfl) ?_
      refine lv_iload_n hx hb dX6_stoodBy_39 rfl (lv_at hl 2 rfl) ?_
      refine lv_icmp_eq (tgt := 51) hx hb dX6_stoodBy_40 (by decide) (fun c_2 => ?_) (fun c_2 => ?_)
      · replace hw := hw.1 c_2
        refine lv_iconst (v := (0 : Int32)) hx hb dX6_stoodBy_51 (by decide) ?_
        have hP9 := hP
        have hD9 := hD
        exact W.zret (v := (0 : Int32)) hx hb hr rfl (fun t ht hW => ⟨⟨(0 : Int32), (), rfl, hw, by rw [ht]; exact hP9, hD9⟩, hS.F ht⟩) hS.2.2 dX6_stoodBy_52
      · replace hw := hw.2 c_2
        refine lv_iload_n hx hb dX6_stoodBy_43 rfl (lv_at hl 3 rfl) ?_
        refine lv_if_eq (tgt := 51) hx hb dX6_stoodBy_44 (by decide) (fun c_3 => ?_) (fun c_3 => ?_)
        · replace hw := hw.1 c_3
          refine lv_iconst (v := (0 : Int32)) hx hb dX6_stoodBy_51 (by decide) ?_
          have hP9 := hP
          have hD9 := hD
          exact W.zret (v := (0 : Int32)) hx hb hr rfl (fun t ht hW => ⟨⟨(0 : Int32), (), rfl, hw, by rw [ht]; exact hP9, hD9⟩, hS.F ht⟩) hS.2.2 dX6_stoodBy_52
        · replace hw := hw.2 c_3
          refine lv_iconst (v := (1 : Int32)) hx hb dX6_stoodBy_47 (by decide) ?_
          refine lv_goto (tgt := 52) hx hb dX6_stoodBy_48 (by decide) ?_
          have hP9 := hP
          have hD9 := hD
          exact W.zret (v := (1 : Int32)) hx hb hr rfl (fun t ht hW => ⟨⟨(1 : Int32), (), rfl, hw, by rw [ht]; exact hP9, hD9⟩, hS.F ht⟩) hS.2.2 dX6_stoodBy_52
    · replace hw := hw.2 c_1
      refine lv_iload_n hx hb dX6_stoodBy_11 rfl (lv_at hl 3 rfl) ?_
      refine lv_if_ne (tgt := 26) hx hb dX6_stoodBy_12 (by decide) (fun c_4 => ?_) (fun c_4 => ?_)
      · replace hw := hw.1 c_4
        refine lv_iconst (v := (1 : Int32)) hx hb dX6_stoodBy_26 (by decide) ?_
        refine lv_goto (tgt := 31) hx hb dX6_stoodBy_27 (by decide) ?_
        refine lv_istore_n (lv' := [(3, .int (1 : Int32)), (0, .ref h), (1, .int p1), (2, .int p2), (4, .int x4)]) hx hb dX6_stoodBy_31 rfl hl (by decide) rfl (fun ls hl => ?_)
        refine lv_iinc (v := (x4 + (1 : Int32))) (lv' := [(4, .int (x4 + (1 : Int32))), (3, .int (1 : Int32)), (0, .ref h), (1, .int p1), (2, .int p2)]) hx hb dX6_stoodBy_32 hl (k := 4) rfl rfl (by decide) rfl (fun ls hl => ?_)
        refine lv_goto (tgt := 5) hx hb dX6_stoodBy_35 (by decide) ?_
        exact ih (1 : Int32) (x4 + (1 : Int32)) H locs hP hD hS ls (lv_sub hl [2, 3, 4, 1, 0] rfl) hw
      · replace hw := hw.2 c_4
        refine lv_aload_n hx hb dX6_stoodBy_15 rfl (lv_at hl 0 rfl) ?_
        refine lv_iload_n hx hb dX6_stoodBy_16 rfl (lv_at hl 1 rfl) ?_
        refine lv_iload_n hx hb dX6_stoodBy_17 rfl (lv_at hl 2 rfl) ?_
        refine lv_iload hx hb dX6_stoodBy_18 (lv_at hl 4 rfl) ?_
        have hPc := hP.sub (ws' := [oc h 6 [.ref h_0, .ref h_1, .ref h_2, .ref h_3, .int (mn b), .int (ma b), .int (yr b), .int (dw b)], ai G h_0 6 (kd b), ai G h_1 18 (pl b), ai G h_2 6 (lf b), ai G h_3 6 (se b)]) [0, 1, 2, 3, 4] rfl
        have hDc := hD.sub (ws' := [oc h 6 [.ref h_0, .ref h_1, .ref h_2, .ref h_3, .int (mn b), .int (ma b), .int (yr b), .int (dw b)], ai G h_0 6 (kd b), ai G h_1 18 (pl b), ai G h_2 6 (lf b), ai G h_3 6 (se b)]) [0, 1, 2, 3, 4] (by decide) rfl
        have hFc := va_free (wc := [oc h 6 [.ref h_0, .ref h_1, .ref h_2, .ref h_3, .int (mn b), .int (ma b), .int (yr b), .int (dw b)], ai G h_0 6 (kd b), ai G h_1 18 (pl b), ai G h_2 6 (lf b), ai G h_3 6 (se b)]) hD hS hA [0, 1, 2, 3, 4] rfl
        refine va_calli (va_runV (As := [.int p1, .int p2, .int x4]) (rest := []) ⟨hx, hb, hml, hown, hts⟩ (mt_X6_stoodAt l G h h_0 h_1 h_2 h_3 H.size b p1 p2 x4 _ hw) (cwV 3 hts (lw_V q362 q363 q364 q60 q365) rfl rfl rfl (by decide +kernel) ⟨Nat.le_of_ble_eq_true rfl, Nat.le_of_ble_eq_true rfl⟩) ⟨fun a U g mk q => by obtain ⟨q0, q1, qP, qK, qD⟩ := q; exact ⟨q0, q1, qP, qK.call, qD⟩, va_recv hK.1 hP (ci := 6) (q0 := 0) rfl rfl, fun U hU hW => ⟨rfl, by rw [hU], by rw [hU]; exact hPc, hK.warm hW, hDc.weaken (fun _ _ _ _ => trivial)⟩⟩ rfl rfl hl.1 rfl (lv_room (Nat.le_of_ble_eq_true rfl)) dX6_stoodBy_20 ⟨Nat.le_of_ble_eq_true rfl, Nat.le_of_ble_eq_true rfl⟩) hS (fun q _ h => hFc q h) hFc (fun r_5 _ t H1 locs ht hvm hw hB hz1 hk1 hS => ?_)
        obtain ⟨hP1, hD1⟩ := hB
        rw [ht] at hP1
        obtain ⟨hP, hD⟩ := va_join (wr := []) (w1 := [oc h 6 [.ref h_0, .ref h_1, .ref h_2, .ref h_3, .int (mn b), .int (ma b), .int (yr b), .int (dw b)], ai G h_0 6 (kd b), ai G h_1 18 (pl b), ai G h_2 6 (lf b), ai G h_3 6 (se b)]) hP hD [0, 1, 2, 3, 4] [] rfl rfl (by decide) (by decide) hk1 hFc hP1 hD1
        clear hPc hDc hFc hP1 hD1 hz1 hk1 hvm
        generalize H1 = H at hP hS ⊢
        have hP : va_P G.1 gCl [oc h 6 [.ref h_0, .ref h_1, .ref h_2, .ref h_3, .int (mn b), .int (ma b), .int (yr b), .int (dw b)], ai G h_0 6 (kd b), ai G h_1 18 (pl b), ai G h_2 6 (lf b), ai G h_3 6 (se b)] H := hP
        have hD : va_D A [oc h 6 [.ref h_0, .ref h_1, .ref h_2, .ref h_3, .int (mn b), .int (ma b), .int (yr b), .int (dw b)], ai G h_0 6 (kd b), ai G h_1 18 (pl b), ai G h_2 6 (lf b), ai G h_3 6 (se b)] := hD
        refine lv_if_eq (tgt := 30) hx hb dX6_stoodBy_23 (by decide) (fun c_6 => ?_) (fun c_6 => ?_)
        · replace hw := hw.1 c_6
          refine lv_iconst (v := (0 : Int32)) hx hb dX6_stoodBy_30 (by decide) ?_
          refine lv_istore_n (lv' := [(3, .int (0 : Int32)), (0, .ref h), (1, .int p1), (2, .int p2), (4, .int x4)]) hx hb dX6_stoodBy_31 rfl hl (by decide) rfl (fun ls hl => ?_)
          refine lv_iinc (v := (x4 + (1 : Int32))) (lv' := [(4, .int (x4 + (1 : Int32))), (3, .int (0 : Int32)), (0, .ref h), (1, .int p1), (2, .int p2)]) hx hb dX6_stoodBy_32 hl (k := 4) rfl rfl (by decide) rfl (fun ls hl => ?_)
          refine lv_goto (tgt := 5) hx hb dX6_stoodBy_35 (by decide) ?_
          exact ih (0 : Int32) (x4 + (1 : Int32)) H locs hP hD hS ls (lv_sub hl [2, 3, 4, 1, 0] rfl) hw
        · replace hw := hw.2 c_6
          refine lv_iconst (v := (1 : Int32)) hx hb dX6_stoodBy_26 (by decide) ?_
          refine lv_goto (tgt := 31) hx hb dX6_stoodBy_27 (by decide) ?_
          refine lv_istore_n (lv' := [(3, .int (1 : Int32)), (0, .ref h), (1, .int p1), (2, .int p2), (4, .int x4)]) hx hb dX6_stoodBy_31 rfl hl (by decide) rfl (fun ls hl => ?_)
          refine lv_iinc (v := (x4 + (1 : Int32))) (lv' := [(4, .int (x4 + (1 : Int32))), (3, .int (1 : Int32)), (0, .ref h), (1, .int p1), (2, .int p2)]) hx hb dX6_stoodBy_32 hl (k := 4) rfl rfl (by decide) rfl (fun ls hl => ?_)
          refine lv_goto (tgt := 5) hx hb dX6_stoodBy_35 (by decide) ?_
          exact ih (1 : Int32) (x4 + (1 : Int32)) H locs hP hD hS ls (lv_sub hl [2, 3, 4, 1, 0] rfl) hw
def wp_X6_stoodBy (b : BT) (p1 : Int32) (p2 : Int32) (Q : Int32 → Prop) : Prop :=
  (∃ j_ : Nat, wp_X6_stoodBy_5 b p1 p2 Q  j_ (0 : Int32) (0 : Int32))
set_option maxHeartbeats 4000000 in
theorem mt_X6_stoodBy (l : Launch) (G : GT) (h h_0 h_1 h_2 h_3 : Nat) (sz : Nat) (b : BT) (p1 : Int32) (p2 : Int32) (Q : Int32 → Prop) (hw : wp_X6_stoodBy b p1 p2 Q) : Met l yX6_stoodBy (ws_ yX6_stoodBy cX6_stoodBy 5 (some .boolean)) ({ frames := 3, cells := 0, slots := 0, locals := 91 } : Room) (va_Pc [.ref h, .int p1, .int p2] (fun U => U.heap.size = sz ∧ va_P G.1 gCl [oc h 6 [.ref h_0, .ref h_1, .ref h_2, .ref h_3, .int (mn b), .int (ma b), .int (yr b), .int (dw b)], ai G h_0 6 (kd b), ai G h_1 18 (pl b), ai G h_2 6 (lf b), ai G h_3 6 (se b)] U.heap ∧ gK G U ∧ va_D (fun _ => True) [oc h 6 [.ref h_0, .ref h_1, .ref h_2, .ref h_3, .int (mn b), .int (ma b), .int (yr b), .int (dw b)], ai G h_0 6 (kd b), ai G h_1 18 (pl b), ai G h_2 6 (lf b), ai G h_3 6 (se b)])) ((fun A => (va_Qi (fun (r : Int32) (u : Unit) => Q r ) (fun u t => va_P G.1 gCl [oc h 6 [.ref h_0, .ref h_1, .ref h_2, .ref h_3, .int (mn b), .int (ma b), .int (yr b), .int (dw b)], ai G h_0 6 (kd b), ai G h_1 18 (pl b), ai G h_2 6 (lf b), ai G h_3 6 (se b)] t.heap ∧ va_D A [oc h 6 [.ref h_0, .ref h_1, .ref h_2, .ref h_3, .int (mn b), .int (ma b), .int (yr b), .int (dw b)], ai G h_0 6 (kd b), ai G h_1 18 (pl b), ai G h_2 6 (lf b), ai G h_3 6 (se b)]) A)) (va_A [oc h 6 [.ref h_0, .ref h_1, .ref h_2, .ref h_3, .int (mn b), .int (ma b), .int (yr b), .int (dw b)], ai G h_0 6 (kd b), ai G h_1 18 (pl b), ai G h_2 6 (lf b), ai G h_3 6 (se b)] sz)) 0 0 (va_A [oc h 6 [.ref h_0, .ref h_1, .ref h_2, .ref h_3, .int (mn b), .int (ma b), .int (yr b), .int (dw b)], ai G h_0 6 (kd b), ai G h_1 18 (pl b), ai G h_2 6 (lf b), ai G h_3 6 (se b)] sz) := by
  refine Met.ofW (cc := cX6_stoodBy) (maxL := 5) (ret := (some .boolean)) (by decide) rfl ?_
  intro p e s m args below meth c s₁ B hml hv
  obtain ⟨rfl, hsz, hP, hK, hD0⟩ := hv
  have hx := B.exec
  have hb := B.bytes
  have hr := B.returns
  have hts := atoms_spec (ws := (ws_ yX6_stoodBy cX6_stoodBy 5 (some .boolean))) B.pre
  have hts : ∀ w ∈ lw_all, w.before _ s = true := fun w h => hts w (List.mem_cons_of_mem _ h)
  have hown : s.vm.findClass RX6 = some m.cls := findClass_of_methodNamed B.named
  have hlocks := B.notSynchronized
  subst hsz
  have hD := hD0.self (sz := s.heap.size)
  generalize hAe : va_A [oc h 6 [.ref h_0, .ref h_1, .ref h_2, .ref h_3, .int (mn b), .int (ma b), .int (yr b), .int (dw b)], ai G h_0 6 (kd b), ai G h_1 18 (pl b), ai G h_2 6 (lf b), ai G h_3 6 (se b)] s.heap.size = A at hD ⊢
  have hA : ∀ q : Nat, s.heap.size ≤ q → A q := fun q h => by rw [← hAe]; exact Or.inr h
  have hS : va_S A s.heap s.heap [] := va_S.rf
  have C : Cx p s m meth c cX6_stoodBy 5 (some .boolean) RX6 ([.ref h, .int p1, .int p2] : List Value).toArray G A := ⟨hx, hb, hr, hlocks, hml, hown, hts, hK, hA⟩
  have hl := lv_entry ([.ref h, .int p1, .int p2]) (n := 5) (Nat.le_of_ble_eq_true rfl)
  rw [lg_entry_eq]
  generalize (lg_sl ([.ref h, .int p1, .int p2]) ++ List.replicate (5 - (lg_sl ([.ref h, .int p1, .int p2])).length) Slot.unset).toArray = ls at hl ⊢
  have hl : lv_has ls 5 [(0, .ref h), (1, .int p1), (2, .int p2)] := hl
  unfold wp_X6_stoodBy at hw
  refine lv_iconst (v := (0 : Int32)) hx hb dX6_stoodBy_0 (by decide) ?_
  refine lv_istore_n (lv' := [(3, .int (0 : Int32)), (0, .ref h), (1, .int p1), (2, .int p2)]) hx hb dX6_stoodBy_1 rfl hl (by decide) rfl (fun ls hl => ?_)
  refine lv_iconst (v := (0 : Int32)) hx hb dX6_stoodBy_2 (by decide) ?_
  refine lv_istore (lv' := [(4, .int (0 : Int32)), (3, .int (0 : Int32)), (0, .ref h), (1, .int p1), (2, .int p2)]) hx hb dX6_stoodBy_3 hl (by decide) rfl (fun ls hl => ?_)
  obtain ⟨j_, hw⟩ := hw
  exact wk_X6_stoodBy_5 h h_0 h_1 h_2 h_3 b p1 p2  Q  C  j_ (0 : Int32) (0 : Int32) s.heap [] hP hD hS ls (lv_sub hl [2, 3, 4, 1, 0] rfl) hw

/-! BattleBench.Bench.stoodSet(I)I -/
def wp_X6_stoodSet_4 (b : BT) (p1 : Int32) (Q : Int32 → Prop)  : Nat → Int32 → Int32 → Prop
  | 0, _, _ => False
  | n + 1, x2, x3 =>
    ((((mn b) ≤ x3) → Q x2) ∧ (¬ ((mn b) ≤ x3) → wp_X6_stoodBy b p1 x3 (fun r_2 => (((r_2 = 0) → (∀ v_4 : Int32, v_4 = (x2 ||| (0 : Int32)) → wp_X6_stoodSet_4 b p1 Q  n v_4 (x3 + (1 : Int32)))) ∧ (¬ (r_2 = 0) → (∀ v_5 : Int32, v_5 = (x2 ||| ((1 : Int32) <<< (x3 &&& 31))) → wp_X6_stoodSet_4 b p1 Q  n v_5 (x3 + (1 : Int32))))))))
set_option maxHeartbeats 4000000 in
theorem wk_X6_stoodSet_4 {p : Program} {l : Launch} {e : Env} {s : State} {m : MethodId} {below : List Frame} {meth : Method} {c : Code} {args : Array Value} {G : GT} {A : Nat → Prop} (h h_0 h_1 h_2 h_3 : Nat) (b : BT) (p1 : Int32) (Q : Int32 → Prop)  (C : Cx p s m meth c cX6_stoodSet 4 (some .int) RX6 args G A)  :
    ∀ (n : Nat), ∀  (x2 : Int32) (x3 : Int32) (H : Heap) (locs : List Loc), va_P G.1 gCl [oc h 6 [.ref h_0, .ref h_1, .ref h_2, .ref h_3, .int (mn b), .int (ma b), .int (yr b), .int (dw b)], ai G h_0 6 (kd b), ai G h_1 18 (pl b), ai G h_2 6 (lf b), ai G h_3 6 (se b)] H → va_D A [oc h 6 [.ref h_0, .ref h_1, .ref h_2, .ref h_3, .int (mn b), .int (ma b), .int (yr b), .int (dw b)], ai G h_0 6 (kd b), ai G h_1 18 (pl b), ai G h_2 6 (lf b), ai G h_3 6 (se b)] → va_S A s.heap H locs → ∀ (ls : Array Slot), lv_has ls 4 [(0, .ref h), (1, .int p1), (2, .int x2), (3, .int x3)] → wp_X6_stoodSet_4 b p1 Q  n x2 x3 → W p l e ({ frames := 4, cells := 0, slots := 0, locals := 115 } : Room) s m args below meth c H locs 0 0 (MQ below (va_Qi (fun (r : Int32) (u : Unit) => Q r ) (fun u t => va_P G.1 gCl [oc h 6 [.ref h_0, .ref h_1, .ref h_2, .ref h_3, .int (mn b), .int (ma b), .int (yr b), .int (dw b)], ai G h_0 6 (kd b), ai G h_1 18 (pl b), ai G h_2 6 (lf b), ai G h_3 6 (se b)] t.heap ∧ va_D A [oc h 6 [.ref h_0, .ref h_1, .ref h_2, .ref h_3, .int (mn b), .int (ma b), .int (yr b), .int (dw b)], ai G h_0 6 (kd b), ai G h_1 18 (pl b), ai G h_2 6 (lf b), ai G h_3 6 (se b)]) A) args s 0 0 A) (F0 m 4 ls []) := by
  have C9 := C
  obtain ⟨hx, hb, hr, hlocks, hml, hown, hts, hK, hA⟩ := C9
  intro n
  induction n with
  | zero => intro x2 x3 H locs hP hD hS ls hl hw; exact False.elim hw
  | succ n ih =>
    intro x2 x3 H locs hP hD hS ls hl hw
    unfold wp_X6_stoodSet_4 at hw
    refine lv_iload_n hx hb dX6_stoodSet_4 rfl (lv_at hl 3 rfl) ?_
    refine lv_aload_n hx hb dX6_stoodSet_5 rfl (lv_at hl 0 rfl) ?_
    refine va_get (D := G.1) (ci := 6) (v := .int (mn b)) (C := RX6) (T := TX6) (N := 8) hx hb hts in_X6 hown hK.1 hP 0 rfl rfl 4 (by decide) (hts _ q135) (fun _ h9 => h9) rfl dX6_stoodSet_6 ?_
    refine lv_icmp_ge (tgt := 37) hx hb dX6_stoodSet_9 (by decide) (fun c_1 => ?_) (fun c_1 => ?_)
    · replace hw := hw.1 c_1
      refine lv_iload_n hx hb dX6_stoodSet_37 rfl (lv_at hl 2 rfl) ?_
      have hP9 := hP
      have hD9 := hD
      exact W.iret (v := x2) hx hb hr (fun t ht hW => ⟨⟨x2, (), rfl, hw, by rw [ht]; exact hP9, hD9⟩, hS.F ht⟩) hS.2.2 dX6_stoodSet_38
    · replace hw := hw.2 c_1
      refine lv_iload_n hx hb dX6_stoodSet_12 rfl (lv_at hl 2 rfl) ?_
      refine lv_aload_n hx hb dX6_stoodSet_13 rfl (lv_at hl 0 rfl) ?_
      refine lv_iload_n hx hb dX6_stoodSet_14 rfl (lv_at hl 1 rfl) ?_
      refine lv_iload_n hx hb dX6_stoodSet_15 rfl (lv_at hl 3 rfl) ?_
      have hPc := hP.sub (ws' := [oc h 6 [.ref h_0, .ref h_1, .ref h_2, .ref h_3, .int (mn b), .int (ma b), .int (yr b), .int (dw b)], ai G h_0 6 (kd b), ai G h_1 18 (pl b), ai G h_2 6 (lf b), ai G h_3 6 (se b)]) [0, 1, 2, 3, 4] rfl
      have hDc := hD.sub (ws' := [oc h 6 [.ref h_0, .ref h_1, .ref h_2, .ref h_3, .int (mn b), .int (ma b), .int (yr b), .int (dw b)], ai G h_0 6 (kd b), ai G h_1 18 (pl b), ai G h_2 6 (lf b), ai G h_3 6 (se b)]) [0, 1, 2, 3, 4] (by decide) rfl
      have hFc := va_free (wc := [oc h 6 [.ref h_0, .ref h_1, .ref h_2, .ref h_3, .int (mn b), .int (ma b), .int (yr b), .int (dw b)], ai G h_0 6 (kd b), ai G h_1 18 (pl b), ai G h_2 6 (lf b), ai G h_3 6 (se b)]) hD hS hA [0, 1, 2, 3, 4] rfl
      refine va_calli (va_runV (As := [.int p1, .int x3]) (rest := [.int x2]) ⟨hx, hb, hml, hown, hts⟩ (mt_X6_stoodBy l G h h_0 h_1 h_2 h_3 H.size b p1 x3 _ hw) (cwV 2 hts (lw_V q358 q359 q360 q60 q361) rfl rfl rfl (by decide +kernel) ⟨Nat.le_of_ble_eq_true rfl, Nat.le_of_ble_eq_true rfl⟩) ⟨fun a U g mk q => by obtain ⟨q0, q1, qP, qK, qD⟩ := q; exact ⟨q0, q1, qP, qK.call, qD⟩, va_recv hK.1 hP (ci := 6) (q0 := 0) rfl rfl, fun U hU hW => ⟨rfl, by rw [hU], by rw [hU]; exact hPc, hK.warm hW, hDc.weaken (fun _ _ _ _ => trivial)⟩⟩ rfl rfl hl.1 rfl (lv_room (Nat.le_of_ble_eq_true rfl)) dX6_stoodSet_16 ⟨Nat.le_of_ble_eq_true rfl, Nat.le_of_ble_eq_true rfl⟩) hS (fun q _ h => hFc q h) hFc (fun r_2 _ t H1 locs ht hvm hw hB hz1 hk1 hS => ?_)
      obtain ⟨hP1, hD1⟩ := hB
      rw [ht] at hP1
      obtain ⟨hP, hD⟩ := va_join (wr := []) (w1 := [oc h 6 [.ref h_0, .ref h_1, .ref h_2, .ref h_3, .int (mn b), .int (ma b), .int (yr b), .int (dw b)], ai G h_0 6 (kd b), ai G h_1 18 (pl b), ai G h_2 6 (lf b), ai G h_3 6 (se b)]) hP hD [0, 1, 2, 3, 4] [] rfl rfl (by decide) (by decide) hk1 hFc hP1 hD1
      clear hPc hDc hFc hP1 hD1 hz1 hk1 hvm
      generalize H1 = H at hP hS ⊢
      have hP : va_P G.1 gCl [oc h 6 [.ref h_0, .ref h_1, .ref h_2, .ref h_3, .int (mn b), .int (ma b), .int (yr b), .int (dw b)], ai G h_0 6 (kd b), ai G h_1 18 (pl b), ai G h_2 6 (lf b), ai G h_3 6 (se b)] H := hP
      have hD : va_D A [oc h 6 [.ref h_0, .ref h_1, .ref h_2, .ref h_3, .int (mn b), .int (ma b), .int (yr b), .int (dw b)], ai G h_0 6 (kd b), ai G h_1 18 (pl b), ai G h_2 6 (lf b), ai G h_3 6 (se b)] := hD
      refine lv_if_eq (tgt := 28) hx hb dX6_stoodSet_19 (by decide) (fun c_3 => ?_) (fun c_3 => ?_)
      · replace hw := hw.1 c_3
        refine lv_iconst (v := (0 : Int32)) hx hb dX6_stoodSet_28 (by decide) ?_
        refine lv_ior hx hb dX6_stoodSet_29 ?_
        refine lv_topi (fun v_4 ev_4 => ?_)
        replace hw := hw v_4 ev_4
        refine lv_istore_n (lv' := [(2, .int v_4), (0, .ref h), (1, .int p1), (3, .int x3)]) hx hb dX6_stoodSet_30 rfl hl (by decide) rfl (fun ls hl => ?_)
        refine lv_iinc (v := (x3 + (1 : Int32))) (lv' := [(3, .int (x3 + (1 : Int32))), (2, .int v_4), (0, .ref h), (1, .int p1)]) hx hb dX6_stoodSet_31 hl (k := 3) rfl rfl (by decide) rfl (fun ls hl => ?_)
        refine lv_goto (tgt := 4) hx hb dX6_stoodSet_34 (by decide) ?_
        exact ih v_4 (x3 + (1 : Int32)) H locs hP hD hS ls (lv_sub hl [2, 3, 1, 0] rfl) hw
      · replace hw := hw.2 c_3
        refine lv_iconst (v := (1 : Int32)) hx hb dX6_stoodSet_22 (by decide) ?_
        refine lv_iload_n hx hb dX6_stoodSet_23 rfl (lv_at hl 3 rfl) ?_
        refine lv_ishl hx hb dX6_stoodSet_24 ?_
        refine lv_goto (tgt := 29) hx hb dX6_stoodSet_25 (by decide) ?_
        refine lv_ior hx hb dX6_stoodSet_29 ?_
        refine lv_topi (fun v_5 ev_5 => ?_)
        replace hw := hw v_5 ev_5
        refine lv_istore_n (lv' := [(2, .int v_5), (0, .ref h), (1, .int p1), (3, .int x3)]) hx hb dX6_stoodSet_30 rfl hl (by decide) rfl (fun ls hl => ?_)
        refine lv_iinc (v := (x3 + (1 : Int32))) (lv' := [(3, .int (x3 + (1 : Int32))), (2, .int v_5), (0, .ref h), (1, .int p1)]) hx hb dX6_stoodSet_31 hl (k := 3) rfl rfl (by decide) rfl (fun ls hl => ?_)
        refine lv_goto (tgt := 4) hx hb dX6_stoodSet_34 (by decide) ?_
        exact ih v_5 (x3 + (1 : Int32)) H locs hP hD hS ls (lv_sub hl [2, 3, 1, 0] rfl) hw
def wp_X6_stoodSet (b : BT) (p1 : Int32) (Q : Int32 → Prop) : Prop :=
  (∃ j_ : Nat, wp_X6_stoodSet_4 b p1 Q  j_ (0 : Int32) (0 : Int32))
set_option maxHeartbeats 4000000 in
theorem mt_X6_stoodSet (l : Launch) (G : GT) (h h_0 h_1 h_2 h_3 : Nat) (sz : Nat) (b : BT) (p1 : Int32) (Q : Int32 → Prop) (hw : wp_X6_stoodSet b p1 Q) : Met l yX6_stoodSet (ws_ yX6_stoodSet cX6_stoodSet 4 (some .int)) ({ frames := 4, cells := 0, slots := 0, locals := 115 } : Room) (va_Pc [.ref h, .int p1] (fun U => U.heap.size = sz ∧ va_P G.1 gCl [oc h 6 [.ref h_0, .ref h_1, .ref h_2, .ref h_3, .int (mn b), .int (ma b), .int (yr b), .int (dw b)], ai G h_0 6 (kd b), ai G h_1 18 (pl b), ai G h_2 6 (lf b), ai G h_3 6 (se b)] U.heap ∧ gK G U ∧ va_D (fun _ => True) [oc h 6 [.ref h_0, .ref h_1, .ref h_2, .ref h_3, .int (mn b), .int (ma b), .int (yr b), .int (dw b)], ai G h_0 6 (kd b), ai G h_1 18 (pl b), ai G h_2 6 (lf b), ai G h_3 6 (se b)])) ((fun A => (va_Qi (fun (r : Int32) (u : Unit) => Q r ) (fun u t => va_P G.1 gCl [oc h 6 [.ref h_0, .ref h_1, .ref h_2, .ref h_3, .int (mn b), .int (ma b), .int (yr b), .int (dw b)], ai G h_0 6 (kd b), ai G h_1 18 (pl b), ai G h_2 6 (lf b), ai G h_3 6 (se b)] t.heap ∧ va_D A [oc h 6 [.ref h_0, .ref h_1, .ref h_2, .ref h_3, .int (mn b), .int (ma b), .int (yr b), .int (dw b)], ai G h_0 6 (kd b), ai G h_1 18 (pl b), ai G h_2 6 (lf b), ai G h_3 6 (se b)]) A)) (va_A [oc h 6 [.ref h_0, .ref h_1, .ref h_2, .ref h_3, .int (mn b), .int (ma b), .int (yr b), .int (dw b)], ai G h_0 6 (kd b), ai G h_1 18 (pl b), ai G h_2 6 (lf b), ai G h_3 6 (se b)] sz)) 0 0 (va_A [oc h 6 [.ref h_0, .ref h_1, .ref h_2, .ref h_3, .int (mn b), .int (ma b), .int (yr b), .int (dw b)], ai G h_0 6 (kd b), ai G h_1 18 (pl b), ai G h_2 6 (lf b), ai G h_3 6 (se b)] sz) := by
  refine Met.ofW (cc := cX6_stoodSet) (maxL := 4) (ret := (some .int)) (by decide) rfl ?_
  intro p e s m args below meth c s₁ B hml hv
  obtain ⟨rfl, hsz, hP, hK, hD0⟩ := hv
  have hx := B.exec
  have hb := B.bytes
  have hr := B.returns
  have hts := atoms_spec (ws := (ws_ yX6_stoodSet cX6_stoodSet 4 (some .int))) B.pre
  have hts : ∀ w ∈ lw_all, w.before _ s = true := fun w h => hts w (List.mem_cons_of_mem _ h)
  have hown : s.vm.findClass RX6 = some m.cls := findClass_of_methodNamed B.named
  have hlocks := B.notSynchronized
  subst hsz
  have hD := hD0.self (sz := s.heap.size)
  generalize hAe : va_A [oc h 6 [.ref h_0, .ref h_1, .ref h_2, .ref h_3, .int (mn b), .int (ma b), .int (yr b), .int (dw b)], ai G h_0 6 (kd b), ai G h_1 18 (pl b), ai G h_2 6 (lf b), ai G h_3 6 (se b)] s.heap.size = A at hD ⊢
  have hA : ∀ q : Nat, s.heap.size ≤ q → A q := fun q h => by rw [← hAe]; exact Or.inr h
  have hS : va_S A s.heap s.heap [] := va_S.rf
  have C : Cx p s m meth c cX6_stoodSet 4 (some .int) RX6 ([.ref h, .int p1] : List Value).toArray G A := ⟨hx, hb, hr, hlocks, hml, hown, hts, hK, hA⟩
  have hl := lv_entry ([.ref h, .int p1]) (n := 4) (Nat.le_of_ble_eq_true rfl)
  rw [lg_entry_eq]
  generalize (lg_sl ([.ref h, .int p1]) ++ List.replicate (4 - (lg_sl ([.ref h, .int p1])).length) Slot.unset).toArray = ls at hl ⊢
  have hl : lv_has ls 4 [(0, .ref h), (1, .int p1)] := hl
  unfold wp_X6_stoodSet at hw
  refine lv_iconst (v := (0 : Int32)) hx hb dX6_stoodSet_0 (by decide) ?_
  refine lv_istore_n (lv' := [(2, .int (0 : Int32)), (0, .ref h), (1, .int p1)]) hx hb dX6_stoodSet_1 rfl hl (by decide) rfl (fun ls hl => ?_)
  refine lv_iconst (v := (0 : Int32)) hx hb dX6_stoodSet_2 (by decide) ?_
  refine lv_istore_n (lv' := [(3, .int (0 : Int32)), (2, .int (0 : Int32)), (0, .ref h), (1, .int p1)]) hx hb dX6_stoodSet_3 rfl hl (by decide) rfl (fun ls hl => ?_)
  obtain ⟨j_, hw⟩ := hw
  exact wk_X6_stoodSet_4 h h_0 h_1 h_2 h_3 b p1  Q  C  j_ (0 : Int32) (0 : Int32) s.heap [] hP hD hS ls (lv_sub hl [2, 3, 1, 0] rfl) hw

/-! BattleBench.Bench.sitSet(I)I -/
def wp_X6_sitSet_24 (b : BT) (p1 : Int32) (Q : Int32 → Prop)  (x2 : Int32) (y0 : Int32) : Prop :=
  (((x2 < 0) → Q y0) ∧ (¬ (x2 < 0) → (((((ma b) - (1 : Int32)) ≤ x2) → Q y0) ∧ (¬ (((ma b) - (1 : Int32)) ≤ x2) → (vp_in (x2 + (1 : Int32)) 6 ∧ Q (y0 ||| ((1 : Int32) <<< (((se b) ((x2 + (1 : Int32))).toNatClampNeg) &&& 31))))))))
set_option maxHeartbeats 4000000 in
theorem wk_X6_sitSet_24 {p : Program} {l : Launch} {e : Env} {s : State} {m : MethodId} {below : List Frame} {meth : Method} {c : Code} {args : Array Value} {G : GT} {A : Nat → Prop} (h h_0 h_1 h_2 h_3 : Nat) (b : BT) (p1 : Int32) (Q : Int32 → Prop)  (C : Cx p s m meth c cX6_sitSet 4 (some .int) RX6 args G A)  :
    ∀  (x2 : Int32) (y0 : Int32) (H : Heap) (locs : List Loc), va_P G.1 gCl [oc h 6 [.ref h_0, .ref h_1, .ref h_2, .ref h_3, .int (mn b), .int (ma b), .int (yr b), .int (dw b)], ai G h_0 6 (kd b), ai G h_1 18 (pl b), ai G h_2 6 (lf b), ai G h_3 6 (se b)] H → va_D A [oc h 6 [.ref h_0, .ref h_1, .ref h_2, .ref h_3, .int (mn b), .int (ma b), .int (yr b), .int (dw b)], ai G h_0 6 (kd b), ai G h_1 18 (pl b), ai G h_2 6 (lf b), ai G h_3 6 (se b)] → va_S A s.heap H locs → ∀ (ls : Array Slot), lv_has ls 4 [(0, .ref h), (2, .int x2)] → wp_X6_sitSet_24 b p1 Q   x2 y0 → W p l e ({ frames := 1, cells := 0, slots := 0, locals := 22 } : Room) s m args below meth c H locs 0 0 (MQ below (va_Qi (fun (r : Int32) (u : Unit) => Q r ) (fun u t => va_P G.1 gCl [oc h 6 [.ref h_0, .ref h_1, .ref h_2, .ref h_3, .int (mn b), .int (ma b), .int (yr b), .int (dw b)], ai G h_0 6 (kd b), ai G h_1 18 (pl b), ai G h_2 6 (lf b), ai G h_3 6 (se b)] t.heap ∧ va_D A [oc h 6 [.ref h_0, .ref h_1, .ref h_2, .ref h_3, .int (mn b), .int (ma b), .int (yr b), .int (dw b)], ai G h_0 6 (kd b), ai G h_1 18 (pl b), ai G h_2 6 (lf b), ai G h_3 6 (se b)]) A) args s 0 0 A) (F0 m 24 ls [.int y0]) := by
  have C9 := C
  obtain ⟨hx, hb, hr, hlocks, hml, hown, hts, hK, hA⟩ := C9
  intro x2 y0 H locs hP hD hS ls hl hw
  unfold wp_X6_sitSet_24 at hw
  refine lv_istore_n (lv' := [(3, .int y0), (0, .ref h), (2, .int x2)]) hx hb dX6_sitSet_24 rfl hl (by decide) rfl (fun ls hl => ?_)
  refine lv_iload_n hx hb dX6_sitSet_25 rfl (lv_at hl 2 rfl) ?_
  refine lv_if_lt (tgt := 54) hx hb dX6_sitSet_26 (by decide) (fun c_1 => ?_) (fun c_1 => ?_)
  · replace hw := hw.1 c_1
    refine lv_iload_n hx hb dX6_sitSet_54 rfl (lv_at hl 0 rfl) ?_
    have hP9 := hP
    have hD9 := hD
    exact W.iret (v := y0) hx hb hr (fun t ht hW => ⟨⟨y0, (), rfl, hw, by rw [ht]; exact hP9, hD9⟩, hS.F ht⟩) hS.2.2 dX6_sitSet_55
  · replace hw := hw.2 c_1
    refine lv_iload_n hx hb dX6_sitSet_29 rfl (lv_at hl 2 rfl) ?_
    refine lv_aload_n hx hb dX6_sitSet_30 rfl (lv_at hl 1 rfl) ?_
    refine va_get (D := G.1) (ci := 6) (v := .int (ma b)) (C := RX6) (T := TX6) (N := 8) hx hb hts in_X6 hown hK.1 hP 0 rfl rfl 5 (by decide) (hts _ q137) (fun _ h9 => h9) rfl dX6_sitSet_31 ?_
    refine lv_iconst (v := (1 : Int32)) hx hb dX6_sitSet_34 (by decide) ?_
    refine lv_isub hx hb dX6_sitSet_35 ?_
    refine lv_icmp_ge (tgt := 54) hx hb dX6_sitSet_36 (by decide) (fun c_2 => ?_) (fun c_2 => ?_)
    · replace hw := hw.1 c_2
      refine lv_iload_n hx hb dX6_sitSet_54 rfl (lv_at hl 0 rfl) ?_
      have hP9 := hP
      have hD9 := hD
      exact W.iret (v := y0) hx hb hr (fun t ht hW => ⟨⟨y0, (), rfl, hw, by rw [ht]; exact hP9, hD9⟩, hS.F ht⟩) hS.2.2 dX6_sitSet_55
    · replace hw := hw.2 c_2
      refine lv_iload_n hx hb dX6_sitSet_39 rfl (lv_at hl 0 rfl) ?_
      refine lv_iconst (v := (1 : Int32)) hx hb dX6_sitSet_40 (by decide) ?_
      refine lv_aload_n hx hb dX6_sitSet_41 rfl (lv_at hl 1 rfl) ?_
      refine va_get (D := G.1) (ci := 6) (v := .ref h_3) (C := RX6) (T := TX6) (N := 8) hx hb hts in_X6 hown hK.1 hP 0 rfl rfl 3 (by decide) (hts _ q133) (fun _ h9 => h9) rfl dX6_sitSet_42 ?_
      refine lv_iload_n hx hb dX6_sitSet_45 rfl (lv_at hl 2 rfl) ?_
      refine lv_iconst (v := (1 : Int32)) hx hb dX6_sitSet_46 (by decide) ?_
      refine lv_iadd hx hb dX6_sitSet_47 ?_
      obtain ⟨i_3, hw⟩ := hw
      refine z_iald hx hb hK.1 hP 4 0 rfl rfl i_3 dX6_sitSet_48 (k := ((x2 + (1 : Int32))).toNatClampNeg) rfl ?_
      refine lv_ishl hx hb dX6_sitSet_49 ?_
      refine lv_ior hx hb dX6_sitSet_50 ?_
      refine lv_goto (tgt := 55) hx hb dX6_sitSet_51 (by decide) ?_
      have hP9 := hP
      have hD9 := hD
      exact W.iret (v := (y0 ||| ((1 : Int32) <<< (((se b) ((x2 + (1 : Int32))).toNatClampNeg) &&& 31)))) hx hb hr (fun t ht hW => ⟨⟨(y0 ||| ((1 : Int32) <<< (((se b) ((x2 + (1 : Int32))).toNatClampNeg) &&& 31))), (), rfl, hw, by rw [ht]; exact hP9, hD9⟩, hS.F ht⟩) hS.2.2 dX6_sitSet_55
def wp_X6_sitSet (b : BT) (p1 : Int32) (Q : Int32 → Prop) : Prop :=
  wp_X6_seatOf b p1 (fun r_1 => (((r_1 ≤ 0) → wp_X6_sitSet_24 b p1 Q  r_1 (0 : Int32)) ∧ (¬ (r_1 ≤ 0) → (vp_in (r_1 - (1 : Int32)) 6 ∧ wp_X6_sitSet_24 b p1 Q  r_1 ((1 : Int32) <<< (((se b) ((r_1 - (1 : Int32))).toNatClampNeg) &&& 31))))))
set_option maxHeartbeats 4000000 in
theorem mt_X6_sitSet (l : Launch) (G : GT) (h h_0 h_1 h_2 h_3 : Nat) (sz : Nat) (b : BT) (p1 : Int32) (Q : Int32 → Prop) (hw : wp_X6_sitSet b p1 Q) : Met l yX6_sitSet (ws_ yX6_sitSet cX6_sitSet 4 (some .int)) ({ frames := 1, cells := 0, slots := 0, locals := 22 } : Room) (va_Pc [.ref h, .int p1] (fun U => U.heap.size = sz ∧ va_P G.1 gCl [oc h 6 [.ref h_0, .ref h_1, .ref h_2, .ref h_3, .int (mn b), .int (ma b), .int (yr b), .int (dw b)], ai G h_0 6 (kd b), ai G h_1 18 (pl b), ai G h_2 6 (lf b), ai G h_3 6 (se b)] U.heap ∧ gK G U ∧ va_D (fun _ => True) [oc h 6 [.ref h_0, .ref h_1, .ref h_2, .ref h_3, .int (mn b), .int (ma b), .int (yr b), .int (dw b)], ai G h_0 6 (kd b), ai G h_1 18 (pl b), ai G h_2 6 (lf b), ai G h_3 6 (se b)])) ((fun A => (va_Qi (fun (r : Int32) (u : Unit) => Q r ) (fun u t => va_P G.1 gCl [oc h 6 [.ref h_0, .ref h_1, .ref h_2, .ref h_3, .int (mn b), .int (ma b), .int (yr b), .int (dw b)], ai G h_0 6 (kd b), ai G h_1 18 (pl b), ai G h_2 6 (lf b), ai G h_3 6 (se b)] t.heap ∧ va_D A [oc h 6 [.ref h_0, .ref h_1, .ref h_2, .ref h_3, .int (mn b), .int (ma b), .int (yr b), .int (dw b)], ai G h_0 6 (kd b), ai G h_1 18 (pl b), ai G h_2 6 (lf b), ai G h_3 6 (se b)]) A)) (va_A [oc h 6 [.ref h_0, .ref h_1, .ref h_2, .ref h_3, .int (mn b), .int (ma b), .int (yr b), .int (dw b)], ai G h_0 6 (kd b), ai G h_1 18 (pl b), ai G h_2 6 (lf b), ai G h_3 6 (se b)] sz)) 0 0 (va_A [oc h 6 [.ref h_0, .ref h_1, .ref h_2, .ref h_3, .int (mn b), .int (ma b), .int (yr b), .int (dw b)], ai G h_0 6 (kd b), ai G h_1 18 (pl b), ai G h_2 6 (lf b), ai G h_3 6 (se b)] sz) := by
  refine Met.ofW (cc := cX6_sitSet) (maxL := 4) (ret := (some .int)) (by decide) rfl ?_
  intro p e s m args below meth c s₁ B hml hv
  obtain ⟨rfl, hsz, hP, hK, hD0⟩ := hv
  have hx := B.exec
  have hb := B.bytes
  have hr := B.returns
  have hts := atoms_spec (ws := (ws_ yX6_sitSet cX6_sitSet 4 (some .int))) B.pre
  have hts : ∀ w ∈ lw_all, w.before _ s = true := fun w h => hts w (List.mem_cons_of_mem _ h)
  have hown : s.vm.findClass RX6 = some m.cls := findClass_of_methodNamed B.named
  have hlocks := B.notSynchronized
  subst hsz
  have hD := hD0.self (sz := s.heap.size)
  generalize hAe : va_A [oc h 6 [.ref h_0, .ref h_1, .ref h_2, .ref h_3, .int (mn b), .int (ma b), .int (yr b), .int (dw b)], ai G h_0 6 (kd b), ai G h_1 18 (pl b), ai G h_2 6 (lf b), ai G h_3 6 (se b)] s.heap.size = A at hD ⊢
  have hA : ∀ q : Nat, s.heap.size ≤ q → A q := fun q h => by rw [← hAe]; exact Or.inr h
  have hS : va_S A s.heap s.heap [] := va_S.rf
  have C : Cx p s m meth c cX6_sitSet 4 (some .int) RX6 ([.ref h, .int p1] : List Value).toArray G A := ⟨hx, hb, hr, hlocks, hml, hown, hts, hK, hA⟩
  have hl := lv_entry ([.ref h, .int p1]) (n := 4) (Nat.le_of_ble_eq_true rfl)
  rw [lg_entry_eq]
  generalize (lg_sl ([.ref h, .int p1]) ++ List.replicate (4 - (lg_sl ([.ref h, .int p1])).length) Slot.unset).toArray = ls at hl ⊢
  have hl : lv_has ls 4 [(0, .ref h), (1, .int p1)] := hl
  unfold wp_X6_sitSet at hw
  refine lv_aload_n hx hb dX6_sitSet_0 rfl (lv_at hl 0 rfl) ?_
  refine lv_iload_n hx hb dX6_sitSet_1 rfl (lv_at hl 1 rfl) ?_
  have hPc := hP.sub (ws' := [oc h 6 [.ref h_0, .ref h_1, .ref h_2, .ref h_3, .int (mn b), .int (ma b), .int (yr b), .int (dw b)], ai G h_0 6 (kd b), ai G h_1 18 (pl b), ai G h_2 6 (lf b), ai G h_3 6 (se b)]) [0, 1, 2, 3, 4] rfl
  have hDc := hD.sub (ws' := [oc h 6 [.ref h_0, .ref h_1, .ref h_2, .ref h_3, .int (mn b), .int (ma b), .int (yr b), .int (dw b)], ai G h_0 6 (kd b), ai G h_1 18 (pl b), ai G h_2 6 (lf b), ai G h_3 6 (se b)]) [0, 1, 2, 3, 4] (by decide) rfl
  have hFc := va_free (wc := [oc h 6 [.ref h_0, .ref h_1, .ref h_2, .ref h_3, .int (mn b), .int (ma b), .int (yr b), .int (dw b)], ai G h_0 6 (kd b), ai G h_1 18 (pl b), ai G h_2 6 (lf b), ai G h_3 6 (se b)]) hD hS hA [0, 1, 2, 3, 4] rfl
  refine va_calli (va_runV (As := [.int p1]) (rest := []) ⟨hx, hb, hml, hown, hts⟩ (mt_X6_seatOf l G h h_0 h_1 h_2 h_3 s.heap.size b p1 _ hw) (cwV 1 hts (lw_V q377 q351 q352 q60 q353) rfl rfl rfl (by decide +kernel) ⟨Nat.le_of_ble_eq_true rfl, Nat.le_of_ble_eq_true rfl⟩) ⟨fun a U g mk q => by obtain ⟨q0, q1, qP, qK, qD⟩ := q; exact ⟨q0, q1, qP, qK.call, qD⟩, va_recv hK.1 hP (ci := 6) (q0 := 0) rfl rfl, fun U hU hW => ⟨rfl, by rw [hU], by rw [hU]; exact hPc, hK.warm hW, hDc.weaken (fun _ _ _ _ => trivial)⟩⟩ rfl rfl hl.1 rfl (lv_room (Nat.le_of_ble_eq_true rfl)) dX6_sitSet_2 ⟨Nat.le_of_ble_eq_true rfl, Nat.le_of_ble_eq_true rfl⟩) hS (fun q _ h => hFc q h) hFc (fun r_1 _ t H1 locs ht hvm hw hB hz1 hk1 hS => ?_)
  obtain ⟨hP1, hD1⟩ := hB
  rw [ht] at hP1
  obtain ⟨hP, hD⟩ := va_join (wr := []) (w1 := [oc h 6 [.ref h_0, .ref h_1, .ref h_2, .ref h_3, .int (mn b), .int (ma b), .int (yr b), .int (dw b)], ai G h_0 6 (kd b), ai G h_1 18 (pl b), ai G h_2 6 (lf b), ai G h_3 6 (se b)]) hP hD [0, 1, 2, 3, 4] [] rfl rfl (by decide) (by decide) hk1 hFc hP1 hD1
  clear hPc hDc hFc hP1 hD1 hz1 hk1 hvm
  generalize H1 = H at hP hS ⊢
  have hP : va_P G.1 gCl [oc h 6 [.ref h_0, .ref h_1, .ref h_2, .ref h_3, .int (mn b), .int (ma b), .int (yr b), .int (dw b)], ai G h_0 6 (kd b), ai G h_1 18 (pl b), ai G h_2 6 (lf b), ai G h_3 6 (se b)] H := hP
  have hD : va_D A [oc h 6 [.ref h_0, .ref h_1, .ref h_2, .ref h_3, .int (mn b), .int (ma b), .int (yr b), .int (dw b)], ai G h_0 6 (kd b), ai G h_1 18 (pl b), ai G h_2 6 (lf b), ai G h_3 6 (se b)] := hD
  refine lv_istore_n (lv' := [(2, .int r_1), (0, .ref h), (1, .int p1)]) hx hb dX6_sitSet_5 rfl hl (by decide) rfl (fun ls hl => ?_)
  refine lv_iload_n hx hb dX6_sitSet_6 rfl (lv_at hl 0 rfl) ?_
  refine lv_if_le (tgt := 23) hx hb dX6_sitSet_7 (by decide) (fun c_2 => ?_) (fun c_2 => ?_)
  · replace hw := hw.1 c_2
    refine lv_iconst (v := (0 : Int32)) hx hb dX6_sitSet_23 (by decide) ?_
    exact wk_X6_sitSet_24 h h_0 h_1 h_2 h_3 b p1  Q  C  r_1 (0 : Int32) H locs hP hD hS ls (lv_sub hl [1, 0] rfl) hw
  · replace hw := hw.2 c_2
    refine lv_iconst (v := (1 : Int32)) hx hb dX6_sitSet_10 (by decide) ?_
    refine lv_aload_n hx hb dX6_sitSet_11 rfl (lv_at hl 1 rfl) ?_
    refine va_get (D := G.1) (ci := 6) (v := .ref h_3) (C := RX6) (T := TX6) (N := 8) hx hb hts in_X6 hown hK.1 hP 0 rfl rfl 3 (by decide) (hts _ q133) (fun _ h9 => h9) rfl dX6_sitSet_12 ?_
    refine lv_iload_n hx hb dX6_sitSet_15 rfl (lv_at hl 0 rfl) ?_
    refine lv_iconst (v := (1 : Int32)) hx hb dX6_sitSet_16 (by decide) ?_
    refine lv_isub hx hb dX6_sitSet_17 ?_
    obtain ⟨i_3, hw⟩ := hw
    refine z_iald hx hb hK.1 hP 4 0 rfl rfl i_3 dX6_sitSet_18 (k := ((r_1 - (1 : Int32))).toNatClampNeg) rfl ?_
    refine lv_ishl hx hb dX6_sitSet_19 ?_
    refine lv_goto (tgt := 24) hx hb dX6_sitSet_20 (by decide) ?_
    exact wk_X6_sitSet_24 h h_0 h_1 h_2 h_3 b p1  Q  C  r_1 ((1 : Int32) <<< (((se b) ((r_1 - (1 : Int32))).toNatClampNeg) &&& 31)) H locs hP hD hS ls (lv_sub hl [1, 0] rfl) hw

/-! BattleBench.Bench.isAtEnd(I)Z -/
def wp_X6_isAtEnd (b : BT) (p1 : Int32) (Q : Int32 → Prop) : Prop :=
  wp_X6_seatOf b p1 (fun r_1 => (((r_1 = 0) → Q (1 : Int32)) ∧ (¬ (r_1 = 0) → ((¬ (r_1 = ((ma b) - (1 : Int32))) → Q (0 : Int32)) ∧ ((r_1 = ((ma b) - (1 : Int32))) → Q (1 : Int32))))))
set_option maxHeartbeats 4000000 in
theorem mt_X6_isAtEnd (l : Launch) (G : GT) (h h_0 h_1 h_2 h_3 : Nat) (sz : Nat) (b : BT) (p1 : Int32) (Q : Int32 → Prop) (hw : wp_X6_isAtEnd b p1 Q) : Met l yX6_isAtEnd (ws_ yX6_isAtEnd cX6_isAtEnd 3 (some .boolean)) ({ frames := 1, cells := 0, slots := 0, locals := 22 } : Room) (va_Pc [.ref h, .int p1] (fun U => U.heap.size = sz ∧ va_P G.1 gCl [oc h 6 [.ref h_0, .ref h_1, .ref h_2, .ref h_3, .int (mn b), .int (ma b), .int (yr b), .int (dw b)], ai G h_0 6 (kd b), ai G h_1 18 (pl b), ai G h_2 6 (lf b), ai G h_3 6 (se b)] U.heap ∧ gK G U ∧ va_D (fun _ => True) [oc h 6 [.ref h_0, .ref h_1, .ref h_2, .ref h_3, .int (mn b), .int (ma b), .int (yr b), .int (dw b)], ai G h_0 6 (kd b), ai G h_1 18 (pl b), ai G h_2 6 (lf b), ai G h_3 6 (se b)])) ((fun A => (va_Qi (fun (r : Int32) (u : Unit) => Q r ) (fun u t => va_P G.1 gCl [oc h 6 [.ref h_0, .ref h_1, .ref h_2, .ref h_3, .int (mn b), .int (ma b), .int (yr b), .int (dw b)], ai G h_0 6 (kd b), ai G h_1 18 (pl b), ai G h_2 6 (lf b), ai G h_3 6 (se b)] t.heap ∧ va_D A [oc h 6 [.ref h_0, .ref h_1, .ref h_2, .ref h_3, .int (mn b), .int (ma b), .int (yr b), .int (dw b)], ai G h_0 6 (kd b), ai G h_1 18 (pl b), ai G h_2 6 (lf b), ai G h_3 6 (se b)]) A)) (va_A [oc h 6 [.ref h_0, .ref h_1, .ref h_2, .ref h_3, .int (mn b), .int (ma b), .int (yr b), .int (dw b)], ai G h_0 6 (kd b), ai G h_1 18 (pl b), ai G h_2 6 (lf b), ai G h_3 6 (se b)] sz)) 0 0 (va_A [oc h 6 [.ref h_0, .ref h_1, .ref h_2, .ref h_3, .int (mn b), .int (ma b), .int (yr b), .int (dw b)], ai G h_0 6 (kd b), ai G h_1 18 (pl b), ai G h_2 6 (lf b), ai G h_3 6 (se b)] sz) := by
  refine Met.ofW (cc := cX6_isAtEnd) (maxL := 3) (ret := (some .boolean)) (by decide) rfl ?_
  intro p e s m args below meth c s₁ B hml hv
  obtain ⟨rfl, hsz, hP, hK, hD0⟩ := hv
  have hx := B.exec
  have hb := B.bytes
  have hr := B.returns
  have hts := atoms_spec (ws := (ws_ yX6_isAtEnd cX6_isAtEnd 3 (some .boolean))) B.pre
  have hts : ∀ w ∈ lw_all, w.before _ s = true := fun w h => hts w (List.mem_cons_of_mem _ h)
  have hown : s.vm.findClass RX6 = some m.cls := findClass_of_methodNamed B.named
  have hlocks := B.notSynchronized
  subst hsz
  have hD := hD0.self (sz := s.heap.size)
  generalize hAe : va_A [oc h 6 [.ref h_0, .ref h_1, .ref h_2, .ref h_3, .int (mn b), .int (ma b), .int (yr b), .int (dw b)], ai G h_0 6 (kd b), ai G h_1 18 (pl b), ai G h_2 6 (lf b), ai G h_3 6 (se b)] s.heap.size = A at hD ⊢
  have hA : ∀ q : Nat, s.heap.size ≤ q → A q := fun q h => by rw [← hAe]; exact Or.inr h
  have hS : va_S A s.heap s.heap [] := va_S.rf
  have C : Cx p s m meth c cX6_isAtEnd 3 (some .boolean) RX6 ([.ref h, .int p1] : List Value).toArray G A := ⟨hx, hb, hr, hlocks, hml, hown, hts, hK, hA⟩
  have hl := lv_entry ([.ref h, .int p1]) (n := 3) (Nat.le_of_ble_eq_true rfl)
  rw [lg_entry_eq]
  generalize (lg_sl ([.ref h, .int p1]) ++ List.replicate (3 - (lg_sl ([.ref h, .int p1])).length) Slot.unset).toArray = ls at hl ⊢
  have hl : lv_has ls 3 [(0, .ref h), (1, .int p1)] := hl
  unfold wp_X6_isAtEnd at hw
  refine lv_aload_n hx hb dX6_isAtEnd_0 rfl (lv_at hl 0 rfl) ?_
  refine lv_iload_n hx hb dX6_isAtEnd_1 rfl (lv_at hl 1 rfl) ?_
  have hPc := hP.sub (ws' := [oc h 6 [.ref h_0, .ref h_1, .ref h_2, .ref h_3, .int (mn b), .int (ma b), .int (yr b), .int (dw b)], ai G h_0 6 (kd b), ai G h_1 18 (pl b), ai G h_2 6 (lf b), ai G h_3 6 (se b)]) [0, 1, 2, 3, 4] rfl
  have hDc := hD.sub (ws' := [oc h 6 [.ref h_0, .ref h_1, .ref h_2, .ref h_3, .int (mn b), .int (ma b), .int (yr b), .int (dw b)], ai G h_0 6 (kd b), ai G h_1 18 (pl b), ai G h_2 6 (lf b), ai G h_3 6 (se b)]) [0, 1, 2, 3, 4] (by decide) rfl
  have hFc := va_free (wc := [oc h 6 [.ref h_0, .ref h_1, .ref h_2, .ref h_3, .int (mn b), .int (ma b), .int (yr b), .int (dw b)], ai G h_0 6 (kd b), ai G h_1 18 (pl b), ai G h_2 6 (lf b), ai G h_3 6 (se b)]) hD hS hA [0, 1, 2, 3, 4] rfl
  refine va_calli (va_runV (As := [.int p1]) (rest := []) ⟨hx, hb, hml, hown, hts⟩ (mt_X6_seatOf l G h h_0 h_1 h_2 h_3 s.heap.size b p1 _ hw) (cwV 1 hts (lw_V q377 q351 q352 q60 q353) rfl rfl rfl (by decide +kernel) ⟨Nat.le_of_ble_eq_true rfl, Nat.le_of_ble_eq_true rfl⟩) ⟨fun a U g mk q => by obtain ⟨q0, q1, qP, qK, qD⟩ := q; exact ⟨q0, q1, qP, qK.call, qD⟩, va_recv hK.1 hP (ci := 6) (q0 := 0) rfl rfl, fun U hU hW => ⟨rfl, by rw [hU], by rw [hU]; exact hPc, hK.warm hW, hDc.weaken (fun _ _ _ _ => trivial)⟩⟩ rfl rfl hl.1 rfl (lv_room (Nat.le_of_ble_eq_true rfl)) dX6_isAtEnd_2 ⟨Nat.le_of_ble_eq_true rfl, Nat.le_of_ble_eq_true rfl⟩) hS (fun q _ h => hFc q h) hFc (fun r_1 _ t H1 locs ht hvm hw hB hz1 hk1 hS => ?_)
  obtain ⟨hP1, hD1⟩ := hB
  rw [ht] at hP1
  obtain ⟨hP, hD⟩ := va_join (wr := []) (w1 := [oc h 6 [.ref h_0, .ref h_1, .ref h_2, .ref h_3, .int (mn b), .int (ma b), .int (yr b), .int (dw b)], ai G h_0 6 (kd b), ai G h_1 18 (pl b), ai G h_2 6 (lf b), ai G h_3 6 (se b)]) hP hD [0, 1, 2, 3, 4] [] rfl rfl (by decide) (by decide) hk1 hFc hP1 hD1
  clear hPc hDc hFc hP1 hD1 hz1 hk1 hvm
  generalize H1 = H at hP hS ⊢
  have hP : va_P G.1 gCl [oc h 6 [.ref h_0, .ref h_1, .ref h_2, .ref h_3, .int (mn b), .int (ma b), .int (yr b), .int (dw b)], ai G h_0 6 (kd b), ai G h_1 18 (pl b), ai G h_2 6 (lf b), ai G h_3 6 (se b)] H := hP
  have hD : va_D A [oc h 6 [.ref h_0, .ref h_1, .ref h_2, .ref h_3, .int (mn b), .int (ma b), .int (yr b), .int (dw b)], ai G h_0 6 (kd b), ai G h_1 18 (pl b), ai G h_2 6 (lf b), ai G h_3 6 (se b)] := hD
  refine lv_istore_n (lv' := [(2, .int r_1), (0, .ref h), (1, .int p1)]) hx hb dX6_isAtEnd_5 rfl hl (by decide) rfl (fun ls hl => ?_)
  refine lv_iload_n hx hb dX6_isAtEnd_6 rfl (lv_at hl 0 rfl) ?_
  refine lv_if_eq (tgt := 20) hx hb dX6_isAtEnd_7 (by decide) (fun c_2 => ?_) (fun c_2 => ?_)
  · replace hw := hw.1 c_2
    refine lv_iconst (v := (1 : Int32)) hx hb dX6_isAtEnd_20 (by decide) ?_
    refine lv_goto (tgt := 25) hx hb dX6_isAtEnd_21 (by decide) ?_
    have hP9 := hP
    have hD9 := hD
    exact W.zret (v := (1 : Int32)) hx hb hr rfl (fun t ht hW => ⟨⟨(1 : Int32), (), rfl, hw, by rw [ht]; exact hP9, hD9⟩, hS.F ht⟩) hS.2.2 dX6_isAtEnd_25
  · replace hw := hw.2 c_2
    refine lv_iload_n hx hb dX6_isAtEnd_10 rfl (lv_at hl 0 rfl) ?_
    refine lv_aload_n hx hb dX6_isAtEnd_11 rfl (lv_at hl 1 rfl) ?_
    refine va_get (D := G.1) (ci := 6) (v := .int (ma b)) (C := RX6) (T := TX6) (N := 8) hx hb hts in_X6 hown hK.1 hP 0 rfl rfl 5 (by decide) (hts _ q137) (fun _ h9 => h9) rfl dX6_isAtEnd_12 ?_
    refine lv_iconst (v := (1 : Int32)) hx hb dX6_isAtEnd_15 (by decide) ?_
    refine lv_isub hx hb dX6_isAtEnd_16 ?_
    refine lv_icmp_ne (tgt := 24) hx hb dX6_isAtEnd_17 (by decide) (fun c_3 => ?_) (fun c_3 => ?_)
    · replace hw := hw.1 c_3
      refine lv_iconst (v := (0 : Int32)) hx hb dX6_isAtEnd_24 (by decide) ?_
      have hP9 := hP
      have hD9 := hD
      exact W.zret (v := (0 : Int32)) hx hb hr rfl (fun t ht hW => ⟨⟨(0 : Int32), (), rfl, hw, by rw [ht]; exact hP9, hD9⟩, hS.F ht⟩) hS.2.2 dX6_isAtEnd_25
    · replace hw := hw.2 c_3
      refine lv_iconst (v := (1 : Int32)) hx hb dX6_isAtEnd_20 (by decide) ?_
      refine lv_goto (tgt := 25) hx hb dX6_isAtEnd_21 (by decide) ?_
      have hP9 := hP
      have hD9 := hD
      exact W.zret (v := (1 : Int32)) hx hb hr rfl (fun t ht hW => ⟨⟨(1 : Int32), (), rfl, hw, by rw [ht]; exact hP9, hD9⟩, hS.F ht⟩) hS.2.2 dX6_isAtEnd_25

/-! BattleBench.Bench.change(I)V -/
def wp_X6_change (b : BT) (p1 : Int32) (Q : (BT) → Prop) : Prop :=
  (vp_in p1 6 ∧ (∀ v_2 : Int32, v_2 = ((se b) p1.toNatClampNeg) → (vp_in (p1 + (1 : Int32)) 6 ∧ (∀ v_4 : Int32, v_4 = ((se b) ((p1 + (1 : Int32))).toNatClampNeg) → (vp_in p1 6 ∧ ∀ f_6 : Nat → Int32, f_6 = upd (se b) p1.toNatClampNeg v_4 → (vp_in (p1 + (1 : Int32)) 6 ∧ ∀ f_8 : Nat → Int32, f_8 = upd f_6 ((p1 + (1 : Int32))).toNatClampNeg v_2 → Q ((kd b), (pl b), (lf b), f_8, (mn b), (ma b), (yr b), (dw b))))))))
set_option maxHeartbeats 4000000 in
theorem mt_X6_change (l : Launch) (G : GT) (h h_0 h_1 h_2 h_3 : Nat) (sz : Nat) (b : BT) (p1 : Int32) (Q : (BT) → Prop) (hw : wp_X6_change b p1 Q) : Met l yX6_change (ws_ yX6_change cX6_change 3 none) ({ frames := 0, cells := 0, slots := 0, locals := 0 } : Room) (va_Pc [.ref h, .int p1] (fun U => U.heap.size = sz ∧ va_P G.1 gCl [oc h 6 [.ref h_0, .ref h_1, .ref h_2, .ref h_3, .int (mn b), .int (ma b), .int (yr b), .int (dw b)], ai G h_0 6 (kd b), ai G h_1 18 (pl b), ai G h_2 6 (lf b), ai G h_3 6 (se b)] U.heap ∧ gK G U ∧ va_D (fun _ => True) [oc h 6 [.ref h_0, .ref h_1, .ref h_2, .ref h_3, .int (mn b), .int (ma b), .int (yr b), .int (dw b)], ai G h_0 6 (kd b), ai G h_1 18 (pl b), ai G h_2 6 (lf b), ai G h_3 6 (se b)])) ((fun A => (va_Qv (fun (u : BT) => Q u) (fun u t => va_P G.1 gCl [oc h 6 [.ref h_0, .ref h_1, .ref h_2, .ref h_3, .int (mn u), .int (ma u), .int (yr u), .int (dw u)], ai G h_0 6 (kd u), ai G h_1 18 (pl u), ai G h_2 6 (lf u), ai G h_3 6 (se u)] t.heap ∧ va_D A [oc h 6 [.ref h_0, .ref h_1, .ref h_2, .ref h_3, .int (mn u), .int (ma u), .int (yr u), .int (dw u)], ai G h_0 6 (kd u), ai G h_1 18 (pl u), ai G h_2 6 (lf u), ai G h_3 6 (se u)]) A)) (va_A [oc h 6 [.ref h_0, .ref h_1, .ref h_2, .ref h_3, .int (mn b), .int (ma b), .int (yr b), .int (dw b)], ai G h_0 6 (kd b), ai G h_1 18 (pl b), ai G h_2 6 (lf b), ai G h_3 6 (se b)] sz)) 0 0 (va_A [oc h 6 [.ref h_0, .ref h_1, .ref h_2, .ref h_3, .int (mn b), .int (ma b), .int (yr b), .int (dw b)], ai G h_0 6 (kd b), ai G h_1 18 (pl b), ai G h_2 6 (lf b), ai G h_3 6 (se b)] sz) := by
  refine Met.ofW (cc := cX6_change) (maxL := 3) (ret := none) (by decide) rfl ?_
  intro p e s m args below meth c s₁ B hml hv
  obtain ⟨rfl, hsz, hP, hK, hD0⟩ := hv
  have hx := B.exec
  have hb := B.bytes
  have hr := B.returns
  have hts := atoms_spec (ws := (ws_ yX6_change cX6_change 3 none)) B.pre
  have hts : ∀ w ∈ lw_all, w.before _ s = true := fun w h => hts w (List.mem_cons_of_mem _ h)
  have hown : s.vm.findClass RX6 = some m.cls := findClass_of_methodNamed B.named
  have hlocks := B.notSynchronized
  subst hsz
  have hD := hD0.self (sz := s.heap.size)
  generalize hAe : va_A [oc h 6 [.ref h_0, .ref h_1, .ref h_2, .ref h_3, .int (mn b), .int (ma b), .int (yr b), .int (dw b)], ai G h_0 6 (kd b), ai G h_1 18 (pl b), ai G h_2 6 (lf b), ai G h_3 6 (se b)] s.heap.size = A at hD ⊢
  have hA : ∀ q : Nat, s.heap.size ≤ q → A q := fun q h => by rw [← hAe]; exact Or.inr h
  have hS : va_S A s.heap s.heap [] := va_S.rf
  have C : Cx p s m meth c cX6_change 3 none RX6 ([.ref h, .int p1] : List Value).toArray G A := ⟨hx, hb, hr, hlocks, hml, hown, hts, hK, hA⟩
  have hl := lv_entry ([.ref h, .int p1]) (n := 3) (Nat.le_of_ble_eq_true rfl)
  rw [lg_entry_eq]
  generalize (lg_sl ([.ref h, .int p1]) ++ List.replicate (3 - (lg_sl ([.ref h, .int p1])).length) Slot.unset).toArray = ls at hl ⊢
  have hl : lv_has ls 3 [(0, .ref h), (1, .int p1)] := hl
  unfold wp_X6_change at hw
  refine lv_aload_n hx hb dX6_change_0 rfl (lv_at hl 0 rfl) ?_
  refine va_get (D := G.1) (ci := 6) (v := .ref h_3) (C := RX6) (T := TX6) (N := 8) hx hb hts in_X6 hown hK.1 hP 0 rfl rfl 3 (by decide) (hts _ q133) (fun _ h9 => h9) rfl dX6_change_1 ?_
  refine lv_iload_n hx hb dX6_change_4 rfl (lv_at hl 1 rfl) ?_
  obtain ⟨i_1, hw⟩ := hw
  refine z_iald hx hb hK.1 hP 4 0 rfl rfl i_1 dX6_change_5 (k := p1.toNatClampNeg) rfl ?_
  refine lv_topi (fun v_2 ev_2 => ?_)
  replace hw := hw v_2 ev_2
  refine lv_istore_n (lv' := [(2, .int v_2), (0, .ref h), (1, .int p1)]) hx hb dX6_change_6 rfl hl (by decide) rfl (fun ls hl => ?_)
  refine lv_aload_n hx hb dX6_change_7 rfl (lv_at hl 1 rfl) ?_
  refine va_get (D := G.1) (ci := 6) (v := .ref h_3) (C := RX6) (T := TX6) (N := 8) hx hb hts in_X6 hown hK.1 hP 0 rfl rfl 3 (by decide) (hts _ q133) (fun _ h9 => h9) rfl dX6_change_8 ?_
  refine lv_iload_n hx hb dX6_change_11 rfl (lv_at hl 2 rfl) ?_
  refine lv_aload_n hx hb dX6_change_12 rfl (lv_at hl 1 rfl) ?_
  refine va_get (D := G.1) (ci := 6) (v := .ref h_3) (C := RX6) (T := TX6) (N := 8) hx hb hts in_X6 hown hK.1 hP 0 rfl rfl 3 (by decide) (hts _ q133) (fun _ h9 => h9) rfl dX6_change_13 ?_
  refine lv_iload_n hx hb dX6_change_16 rfl (lv_at hl 2 rfl) ?_
  refine lv_iconst (v := (1 : Int32)) hx hb dX6_change_17 (by decide) ?_
  refine lv_iadd hx hb dX6_change_18 ?_
  obtain ⟨i_3, hw⟩ := hw
  refine z_iald hx hb hK.1 hP 4 0 rfl rfl i_3 dX6_change_19 (k := ((p1 + (1 : Int32))).toNatClampNeg) rfl ?_
  refine lv_topi (fun v_4 ev_4 => ?_)
  replace hw := hw v_4 ev_4
  obtain ⟨i_5, hw⟩ := hw
  refine z_iast hx hb hK.1 hP hD hS 4 0 rfl rfl i_5 dX6_change_20 (k := p1.toNatClampNeg) rfl (fun f_6 ef_6 H locs hP hD hS => ?_)
  replace hw := hw f_6 ef_6
  have hP : va_P G.1 gCl [oc h 6 [.ref h_0, .ref h_1, .ref h_2, .ref h_3, .int (mn b), .int (ma b), .int (yr b), .int (dw b)], ai G h_0 6 (kd b), ai G h_1 18 (pl b), ai G h_2 6 (lf b), ai G h_3 6 f_6] H := hP
  have hD : va_D A [oc h 6 [.ref h_0, .ref h_1, .ref h_2, .ref h_3, .int (mn b), .int (ma b), .int (yr b), .int (dw b)], ai G h_0 6 (kd b), ai G h_1 18 (pl b), ai G h_2 6 (lf b), ai G h_3 6 f_6] := hD
  refine lv_aload_n hx hb dX6_change_21 rfl (lv_at hl 1 rfl) ?_
  refine va_get (D := G.1) (ci := 6) (v := .ref h_3) (C := RX6) (T := TX6) (N := 8) hx hb hts in_X6 hown hK.1 hP 0 rfl rfl 3 (by decide) (hts _ q133) (fun _ h9 => h9) rfl dX6_change_22 ?_
  refine lv_iload_n hx hb dX6_change_25 rfl (lv_at hl 2 rfl) ?_
  refine lv_iconst (v := (1 : Int32)) hx hb dX6_change_26 (by decide) ?_
  refine lv_iadd hx hb dX6_change_27 ?_
  refine lv_iload_n hx hb dX6_change_28 rfl (lv_at hl 0 rfl) ?_
  obtain ⟨i_7, hw⟩ := hw
  refine z_iast hx hb hK.1 hP hD hS 4 0 rfl rfl i_7 dX6_change_29 (k := ((p1 + (1 : Int32))).toNatClampNeg) rfl (fun f_8 ef_8 H locs hP hD hS => ?_)
  replace hw := hw f_8 ef_8
  have hP : va_P G.1 gCl [oc h 6 [.ref h_0, .ref h_1, .ref h_2, .ref h_3, .int (mn b), .int (ma b), .int (yr b), .int (dw b)], ai G h_0 6 (kd b), ai G h_1 18 (pl b), ai G h_2 6 (lf b), ai G h_3 6 f_8] H := hP
  have hD : va_D A [oc h 6 [.ref h_0, .ref h_1, .ref h_2, .ref h_3, .int (mn b), .int (ma b), .int (yr b), .int (dw b)], ai G h_0 6 (kd b), ai G h_1 18 (pl b), ai G h_2 6 (lf b), ai G h_3 6 f_8] := hD
  have hP9 := hP
  have hD9 := hD
  exact W.vret hx hb hr (fun t ht hW => ⟨⟨((kd b), (pl b), (lf b), f_8, (mn b), (ma b), (yr b), (dw b)), rfl, hw, by rw [ht]; exact hP9, hD9⟩, hS.F ht⟩) hS.2.2 dX6_change_30

/-! BattleBench.Bench.closeUp()V -/
def wp_X6_closeUp_4  (Q : (BT) → Prop)  : Nat → BT → Int32 → Int32 → Prop
  | 0, _, _, _ => False
  | n + 1, b, x1, x2 =>
    ((((ma b) ≤ x2) → Q ((kd b), (pl b), (lf b), (se b), (mn b), x1, (yr b), (dw b))) ∧ (¬ ((ma b) ≤ x2) → (vp_in x2 6 ∧ (vp_in ((se b) x2.toNatClampNeg) 6 ∧ (((((lf b) (((se b) x2.toNatClampNeg)).toNatClampNeg) ≤ 0) → wp_X6_closeUp_4  Q  n b x1 (x2 + (1 : Int32))) ∧ (¬ (((lf b) (((se b) x2.toNatClampNeg)).toNatClampNeg) ≤ 0) → (vp_in x2 6 ∧ (∀ v_6 : Int32, v_6 = ((se b) x2.toNatClampNeg) → (vp_in x1 6 ∧ ∀ f_8 : Nat → Int32, f_8 = upd (se b) x1.toNatClampNeg v_6 → wp_X6_closeUp_4  Q  n ((kd b), (pl b), (lf b), f_8, (mn b), (ma b), (yr b), (dw b)) (x1 + (1 : Int32)) (x2 + (1 : Int32)))))))))))
set_option maxHeartbeats 4000000 in
theorem wk_X6_closeUp_4 {p : Program} {l : Launch} {e : Env} {s : State} {m : MethodId} {below : List Frame} {meth : Method} {c : Code} {args : Array Value} {G : GT} {A : Nat → Prop} (h h_0 h_1 h_2 h_3 : Nat)  (Q : (BT) → Prop)  (C : Cx p s m meth c cX6_closeUp 3 none RX6 args G A)  :
    ∀ (n : Nat), ∀  (b : BT) (x1 : Int32) (x2 : Int32) (H : Heap) (locs : List Loc), va_P G.1 gCl [oc h 6 [.ref h_0, .ref h_1, .ref h_2, .ref h_3, .int (mn b), .int (ma b), .int (yr b), .int (dw b)], ai G h_0 6 (kd b), ai G h_1 18 (pl b), ai G h_2 6 (lf b), ai G h_3 6 (se b)] H → va_D A [oc h 6 [.ref h_0, .ref h_1, .ref h_2, .ref h_3, .int (mn b), .int (ma b), .int (yr b), .int (dw b)], ai G h_0 6 (kd b), ai G h_1 18 (pl b), ai G h_2 6 (lf b), ai G h_3 6 (se b)] → va_S A s.heap H locs → ∀ (ls : Array Slot), lv_has ls 3 [(0, .ref h), (1, .int x1), (2, .int x2)] → wp_X6_closeUp_4  Q  n b x1 x2 → W p l e ({ frames := 0, cells := 0, slots := 0, locals := 0 } : Room) s m args below meth c H locs 0 0 (MQ below (va_Qv (fun (u : BT) => Q u) (fun u t => va_P G.1 gCl [oc h 6 [.ref h_0, .ref h_1, .ref h_2, .ref h_3, .int (mn u), .int (ma u), .int (yr u), .int (dw u)], ai G h_0 6 (kd u), ai G h_1 18 (pl u), ai G h_2 6 (lf u), ai G h_3 6 (se u)] t.heap ∧ va_D A [oc h 6 [.ref h_0, .ref h_1, .ref h_2, .ref h_3, .int (mn u), .int (ma u), .int (yr u), .int (dw u)], ai G h_0 6 (kd u), ai G h_1 18 (pl u), ai G h_2 6 (lf u), ai G h_3 6 (se u)]) A) args s 0 0 A) (F0 m 4 ls []) := by
  have C9 := C
  obtain ⟨hx, hb, hr, hlocks, hml, hown, hts, hK, hA⟩ := C9
  intro n
  induction n with
  | zero => intro b x1 x2 H locs hP hD hS ls hl hw; exact False.elim hw
  | succ n ih =>
    intro b x1 x2 H locs hP hD hS ls hl hw
    unfold wp_X6_closeUp_4 at hw
    refine lv_iload_n hx hb dX6_closeUp_4 rfl (lv_at hl 2 rfl) ?_
    refine lv_aload_n hx hb dX6_closeUp_5 rfl (lv_at hl 0 rfl) ?_
    refine va_get (D := G.1) (ci := 6) (v := .int (ma b)) (C := RX6) (T := TX6) (N := 8) hx hb hts in_X6 hown hK.1 hP 0 rfl rfl 5 (by decide) (hts _ q137) (fun _ h9 => h9) rfl dX6_closeUp_6 ?_
    refine lv_icmp_ge (tgt := 47) hx hb dX6_closeUp_9 (by decide) (fun c_1 => ?_) (fun c_1 => ?_)
    · replace hw := hw.1 c_1
      refine lv_aload_n hx hb dX6_closeUp_47 rfl (lv_at hl 0 rfl) ?_
      refine lv_iload_n hx hb dX6_closeUp_48 rfl (lv_at hl 1 rfl) ?_
      refine va_put (D := G.1) (ci := 6) (v := .int x1) (ty := .int) (C := RX6) (T := TX6) (N := 8) hx hb hts in_X6 tyX6 tyX6_ok nmX6 hown hK.1 hP hD hS 0 rfl rfl 5 (by decide) (hts _ q137) (fun _ h9 => h9) rfl (by decide +kernel) rfl rfl (Nat.le_of_ble_eq_true rfl) dX6_closeUp_49 (fun H locs hP hD hS => ?_)
      have hP : va_P G.1 gCl [oc h 6 [.ref h_0, .ref h_1, .ref h_2, .ref h_3, .int (mn b), .int x1, .int (yr b), .int (dw b)], ai G h_0 6 (kd b), ai G h_1 18 (pl b), ai G h_2 6 (lf b), ai G h_3 6 (se b)] H := hP
      have hD : va_D A [oc h 6 [.ref h_0, .ref h_1, .ref h_2, .ref h_3, .int (mn b), .int x1, .int (yr b), .int (dw b)], ai G h_0 6 (kd b), ai G h_1 18 (pl b), ai G h_2 6 (lf b), ai G h_3 6 (se b)] := hD
      have hP9 := hP
      have hD9 := hD
      exact W.vret hx hb hr (fun t ht hW => ⟨⟨((kd b), (pl b), (lf b), (se b), (mn b), x1, (yr b), (dw b)), rfl, hw, by rw [ht]; exact hP9, hD9⟩, hS.F ht⟩) hS.2.2 dX6_closeUp_52
    · replace hw := hw.2 c_1
      refine lv_aload_n hx hb dX6_closeUp_12 rfl (lv_at hl 0 rfl) ?_
      refine va_get (D := G.1) (ci := 6) (v := .ref h_2) (C := RX6) (T := TX6) (N := 8) hx hb hts in_X6 hown hK.1 hP 0 rfl rfl 2 (by decide) (hts _ q131) (fun _ h9 => h9) rfl dX6_closeUp_13 ?_
      refine lv_aload_n hx hb dX6_closeUp_16 rfl (lv_at hl 0 rfl) ?_
      refine va_get (D := G.1) (ci := 6) (v := .ref h_3) (C := RX6) (T := TX6) (N := 8) hx hb hts in_X6 hown hK.1 hP 0 rfl rfl 3 (by decide) (hts _ q133) (fun _ h9 => h9) rfl dX6_closeUp_17 ?_
      refine lv_iload_n hx hb dX6_closeUp_20 rfl (lv_at hl 2 rfl) ?_
      obtain ⟨i_2, hw⟩ := hw
      refine z_iald hx hb hK.1 hP 4 0 rfl rfl i_2 dX6_closeUp_21 (k := x2.toNatClampNeg) rfl ?_
      obtain ⟨i_3, hw⟩ := hw
      refine z_iald hx hb hK.1 hP 3 0 rfl rfl i_3 dX6_closeUp_22 (k := (((se b) x2.toNatClampNeg)).toNatClampNeg) rfl ?_
      refine lv_if_le (tgt := 41) hx hb dX6_closeUp_23 (by decide) (fun c_4 => ?_) (fun c_4 => ?_)
      · replace hw := hw.1 c_4
        refine lv_iinc (v := (x2 + (1 : Int32))) (lv' := [(2, .int (x2 + (1 : Int32))), (0, .ref h), (1, .int x1)]) hx hb dX6_closeUp_41 hl (k := 2) rfl rfl (by decide) rfl (fun ls hl => ?_)
        refine lv_goto (tgt := 4) hx hb dX6_closeUp_44 (by decide) ?_
        exact ih b x1 (x2 + (1 : Int32)) H locs hP hD hS ls (lv_sub hl [1, 2, 0] rfl) hw
      · replace hw := hw.2 c_4
        refine lv_aload_n hx hb dX6_closeUp_26 rfl (lv_at hl 0 rfl) ?_
        refine va_get (D := G.1) (ci := 6) (v := .ref h_3) (C := RX6) (T := TX6) (N := 8) hx hb hts in_X6 hown hK.1 hP 0 rfl rfl 3 (by decide) (hts _ q133) (fun _ h9 => h9) rfl dX6_closeUp_27 ?_
        refine lv_iload_n hx hb dX6_closeUp_30 rfl (lv_at hl 1 rfl) ?_
        refine lv_aload_n hx hb dX6_closeUp_31 rfl (lv_at hl 0 rfl) ?_
        refine va_get (D := G.1) (ci := 6) (v := .ref h_3) (C := RX6) (T := TX6) (N := 8) hx hb hts in_X6 hown hK.1 hP 0 rfl rfl 3 (by decide) (hts _ q133) (fun _ h9 => h9) rfl dX6_closeUp_32 ?_
        refine lv_iload_n hx hb dX6_closeUp_35 rfl (lv_at hl 2 rfl) ?_
        obtain ⟨i_5, hw⟩ := hw
        refine z_iald hx hb hK.1 hP 4 0 rfl rfl i_5 dX6_closeUp_36 (k := x2.toNatClampNeg) rfl ?_
        refine lv_topi (fun v_6 ev_6 => ?_)
        replace hw := hw v_6 ev_6
        obtain ⟨i_7, hw⟩ := hw
        refine z_iast hx hb hK.1 hP hD hS 4 0 rfl rfl i_7 dX6_closeUp_37 (k := x1.toNatClampNeg) rfl (fun f_8 ef_8 H locs hP hD hS => ?_)
        replace hw := hw f_8 ef_8
        have hP : va_P G.1 gCl [oc h 6 [.ref h_0, .ref h_1, .ref h_2, .ref h_3, .int (mn b), .int (ma b), .int (yr b), .int (dw b)], ai G h_0 6 (kd b), ai G h_1 18 (pl b), ai G h_2 6 (lf b), ai G h_3 6 f_8] H := hP
        have hD : va_D A [oc h 6 [.ref h_0, .ref h_1, .ref h_2, .ref h_3, .int (mn b), .int (ma b), .int (yr b), .int (dw b)], ai G h_0 6 (kd b), ai G h_1 18 (pl b), ai G h_2 6 (lf b), ai G h_3 6 f_8] := hD
        refine lv_iinc (v := (x1 + (1 : Int32))) (lv' := [(1, .int (x1 + (1 : Int32))), (0, .ref h), (2, .int x2)]) hx hb dX6_closeUp_38 hl (k := 1) rfl rfl (by decide) rfl (fun ls hl => ?_)
        refine lv_iinc (v := (x2 + (1 : Int32))) (lv' := [(2, .int (x2 + (1 : Int32))), (1, .int (x1 + (1 : Int32))), (0, .ref h)]) hx hb dX6_closeUp_41 hl (k := 2) rfl rfl (by decide) rfl (fun ls hl => ?_)
        refine lv_goto (tgt := 4) hx hb dX6_closeUp_44 (by decide) ?_
        exact ih ((kd b), (pl b), (lf b), f_8, (mn b), (ma b), (yr b), (dw b)) (x1 + (1 : Int32)) (x2 + (1 : Int32)) H locs hP hD hS ls (lv_sub hl [2, 1, 0] rfl) hw
def wp_X6_closeUp (b : BT) (Q : (BT) → Prop) : Prop :=
  (∃ j_ : Nat, wp_X6_closeUp_4  Q  j_ b (0 : Int32) (0 : Int32))
set_option maxHeartbeats 4000000 in
theorem mt_X6_closeUp (l : Launch) (G : GT) (h h_0 h_1 h_2 h_3 : Nat) (sz : Nat) (b : BT) (Q : (BT) → Prop) (hw : wp_X6_closeUp b Q) : Met l yX6_closeUp (ws_ yX6_closeUp cX6_closeUp 3 none) ({ frames := 0, cells := 0, slots := 0, locals := 0 } : Room) (va_Pc [.ref h] (fun U => U.heap.size = sz ∧ va_P G.1 gCl [oc h 6 [.ref h_0, .ref h_1, .ref h_2, .ref h_3, .int (mn b), .int (ma b), .int (yr b), .int (dw b)], ai G h_0 6 (kd b), ai G h_1 18 (pl b), ai G h_2 6 (lf b), ai G h_3 6 (se b)] U.heap ∧ gK G U ∧ va_D (fun _ => True) [oc h 6 [.ref h_0, .ref h_1, .ref h_2, .ref h_3, .int (mn b), .int (ma b), .int (yr b), .int (dw b)], ai G h_0 6 (kd b), ai G h_1 18 (pl b), ai G h_2 6 (lf b), ai G h_3 6 (se b)])) ((fun A => (va_Qv (fun (u : BT) => Q u) (fun u t => va_P G.1 gCl [oc h 6 [.ref h_0, .ref h_1, .ref h_2, .ref h_3, .int (mn u), .int (ma u), .int (yr u), .int (dw u)], ai G h_0 6 (kd u), ai G h_1 18 (pl u), ai G h_2 6 (lf u), ai G h_3 6 (se u)] t.heap ∧ va_D A [oc h 6 [.ref h_0, .ref h_1, .ref h_2, .ref h_3, .int (mn u), .int (ma u), .int (yr u), .int (dw u)], ai G h_0 6 (kd u), ai G h_1 18 (pl u), ai G h_2 6 (lf u), ai G h_3 6 (se u)]) A)) (va_A [oc h 6 [.ref h_0, .ref h_1, .ref h_2, .ref h_3, .int (mn b), .int (ma b), .int (yr b), .int (dw b)], ai G h_0 6 (kd b), ai G h_1 18 (pl b), ai G h_2 6 (lf b), ai G h_3 6 (se b)] sz)) 0 0 (va_A [oc h 6 [.ref h_0, .ref h_1, .ref h_2, .ref h_3, .int (mn b), .int (ma b), .int (yr b), .int (dw b)], ai G h_0 6 (kd b), ai G h_1 18 (pl b), ai G h_2 6 (lf b), ai G h_3 6 (se b)] sz) := by
  refine Met.ofW (cc := cX6_closeUp) (maxL := 3) (ret := none) (by decide) rfl ?_
  intro p e s m args below meth c s₁ B hml hv
  obtain ⟨rfl, hsz, hP, hK, hD0⟩ := hv
  have hx := B.exec
  have hb := B.bytes
  have hr := B.returns
  have hts := atoms_spec (ws := (ws_ yX6_closeUp cX6_closeUp 3 none)) B.pre
  have hts : ∀ w ∈ lw_all, w.before _ s = true := fun w h => hts w (List.mem_cons_of_mem _ h)
  have hown : s.vm.findClass RX6 = some m.cls := findClass_of_methodNamed B.named
  have hlocks := B.notSynchronized
  subst hsz
  have hD := hD0.self (sz := s.heap.size)
  generalize hAe : va_A [oc h 6 [.ref h_0, .ref h_1, .ref h_2, .ref h_3, .int (mn b), .int (ma b), .int (yr b), .int (dw b)], ai G h_0 6 (kd b), ai G h_1 18 (pl b), ai G h_2 6 (lf b), ai G h_3 6 (se b)] s.heap.size = A at hD ⊢
  have hA : ∀ q : Nat, s.heap.size ≤ q → A q := fun q h => by rw [← hAe]; exact Or.inr h
  have hS : va_S A s.heap s.heap [] := va_S.rf
  have C : Cx p s m meth c cX6_closeUp 3 none RX6 ([.ref h] : List Value).toArray G A := ⟨hx, hb, hr, hlocks, hml, hown, hts, hK, hA⟩
  have hl := lv_entry ([.ref h]) (n := 3) (Nat.le_of_ble_eq_true rfl)
  rw [lg_entry_eq]
  generalize (lg_sl ([.ref h]) ++ List.replicate (3 - (lg_sl ([.ref h])).length) Slot.unset).toArray = ls at hl ⊢
  have hl : lv_has ls 3 [(0, .ref h)] := hl
  unfold wp_X6_closeUp at hw
  refine lv_iconst (v := (0 : Int32)) hx hb dX6_closeUp_0 (by decide) ?_
  refine lv_istore_n (lv' := [(1, .int (0 : Int32)), (0, .ref h)]) hx hb dX6_closeUp_1 rfl hl (by decide) rfl (fun ls hl => ?_)
  refine lv_iconst (v := (0 : Int32)) hx hb dX6_closeUp_2 (by decide) ?_
  refine lv_istore_n (lv' := [(2, .int (0 : Int32)), (1, .int (0 : Int32)), (0, .ref h)]) hx hb dX6_closeUp_3 rfl hl (by decide) rfl (fun ls hl => ?_)
  obtain ⟨j_, hw⟩ := hw
  exact wk_X6_closeUp_4 h h_0 h_1 h_2 h_3   Q  C  j_ b (0 : Int32) (0 : Int32) s.heap [] hP hD hS ls (lv_sub hl [2, 1, 0] rfl) hw

/-! BattleBench.Bench.begin()V -/
def wp_X6_begin (b : BT) (Q : (BT) → Prop) : Prop :=
  Q ((kd b), (pl b), (lf b), (se b), (0 : Int32), (0 : Int32), (0 : Int32), (dw b))
set_option maxHeartbeats 4000000 in
theorem mt_X6_begin (l : Launch) (G : GT) (h h_0 h_1 h_2 h_3 : Nat) (sz : Nat) (b : BT) (Q : (BT) → Prop) (hw : wp_X6_begin b Q) : Met l yX6_begin (ws_ yX6_begin cX6_begin 1 none) ({ frames := 0, cells := 0, slots := 0, locals := 0 } : Room) (va_Pc [.ref h] (fun U => U.heap.size = sz ∧ va_P G.1 gCl [oc h 6 [.ref h_0, .ref h_1, .ref h_2, .ref h_3, .int (mn b), .int (ma b), .int (yr b), .int (dw b)], ai G h_0 6 (kd b), ai G h_1 18 (pl b), ai G h_2 6 (lf b), ai G h_3 6 (se b)] U.heap ∧ gK G U ∧ va_D (fun _ => True) [oc h 6 [.ref h_0, .ref h_1, .ref h_2, .ref h_3, .int (mn b), .int (ma b), .int (yr b), .int (dw b)], ai G h_0 6 (kd b), ai G h_1 18 (pl b), ai G h_2 6 (lf b), ai G h_3 6 (se b)])) ((fun A => (va_Qv (fun (u : BT) => Q u) (fun u t => va_P G.1 gCl [oc h 6 [.ref h_0, .ref h_1, .ref h_2, .ref h_3, .int (mn u), .int (ma u), .int (yr u), .int (dw u)], ai G h_0 6 (kd u), ai G h_1 18 (pl u), ai G h_2 6 (lf u), ai G h_3 6 (se u)] t.heap ∧ va_D A [oc h 6 [.ref h_0, .ref h_1, .ref h_2, .ref h_3, .int (mn u), .int (ma u), .int (yr u), .int (dw u)], ai G h_0 6 (kd u), ai G h_1 18 (pl u), ai G h_2 6 (lf u), ai G h_3 6 (se u)]) A)) (va_A [oc h 6 [.ref h_0, .ref h_1, .ref h_2, .ref h_3, .int (mn b), .int (ma b), .int (yr b), .int (dw b)], ai G h_0 6 (kd b), ai G h_1 18 (pl b), ai G h_2 6 (lf b), ai G h_3 6 (se b)] sz)) 0 0 (va_A [oc h 6 [.ref h_0, .ref h_1, .ref h_2, .ref h_3, .int (mn b), .int (ma b), .int (yr b), .int (dw b)], ai G h_0 6 (kd b), ai G h_1 18 (pl b), ai G h_2 6 (lf b), ai G h_3 6 (se b)] sz) := by
  refine Met.ofW (cc := cX6_begin) (maxL := 1) (ret := none) (by decide) rfl ?_
  intro p e s m args below meth c s₁ B hml hv
  obtain ⟨rfl, hsz, hP, hK, hD0⟩ := hv
  have hx := B.exec
  have hb := B.bytes
  have hr := B.returns
  have hts := atoms_spec (ws := (ws_ yX6_begin cX6_begin 1 none)) B.pre
  have hts : ∀ w ∈ lw_all, w.before _ s = true := fun w h => hts w (List.mem_cons_of_mem _ h)
  have hown : s.vm.findClass RX6 = some m.cls := findClass_of_methodNamed B.named
  have hlocks := B.notSynchronized
  subst hsz
  have hD := hD0.self (sz := s.heap.size)
  generalize hAe : va_A [oc h 6 [.ref h_0, .ref h_1, .ref h_2, .ref h_3, .int (mn b), .int (ma b), .int (yr b), .int (dw b)], ai G h_0 6 (kd b), ai G h_1 18 (pl b), ai G h_2 6 (lf b), ai G h_3 6 (se b)] s.heap.size = A at hD ⊢
  have hA : ∀ q : Nat, s.heap.size ≤ q → A q := fun q h => by rw [← hAe]; exact Or.inr h
  have hS : va_S A s.heap s.heap [] := va_S.rf
  have C : Cx p s m meth c cX6_begin 1 none RX6 ([.ref h] : List Value).toArray G A := ⟨hx, hb, hr, hlocks, hml, hown, hts, hK, hA⟩
  have hl := lv_entry ([.ref h]) (n := 1) (Nat.le_of_ble_eq_true rfl)
  rw [lg_entry_eq]
  generalize (lg_sl ([.ref h]) ++ List.replicate (1 - (lg_sl ([.ref h])).length) Slot.unset).toArray = ls at hl ⊢
  have hl : lv_has ls 1 [(0, .ref h)] := hl
  unfold wp_X6_begin at hw
  refine lv_aload_n hx hb dX6_begin_0 rfl (lv_at hl 0 rfl) ?_
  refine lv_iconst (v := (0 : Int32)) hx hb dX6_begin_1 (by decide) ?_
  refine va_put (D := G.1) (ci := 6) (v := .int (0 : Int32)) (ty := .int) (C := RX6) (T := TX6) (N := 8) hx hb hts in_X6 tyX6 tyX6_ok nmX6 hown hK.1 hP hD hS 0 rfl rfl 4 (by decide) (hts _ q135) (fun _ h9 => h9) rfl (by decide +kernel) rfl rfl (Nat.le_of_ble_eq_true rfl) dX6_begin_2 (fun H locs hP hD hS => ?_)
  have hP : va_P G.1 gCl [oc h 6 [.ref h_0, .ref h_1, .ref h_2, .ref h_3, .int (0 : Int32), .int (ma b), .int (yr b), .int (dw b)], ai G h_0 6 (kd b), ai G h_1 18 (pl b), ai G h_2 6 (lf b), ai G h_3 6 (se b)] H := hP
  have hD : va_D A [oc h 6 [.ref h_0, .ref h_1, .ref h_2, .ref h_3, .int (0 : Int32), .int (ma b), .int (yr b), .int (dw b)], ai G h_0 6 (kd b), ai G h_1 18 (pl b), ai G h_2 6 (lf b), ai G h_3 6 (se b)] := hD
  refine lv_aload_n hx hb dX6_begin_5 rfl (lv_at hl 0 rfl) ?_
  refine lv_iconst (v := (0 : Int32)) hx hb dX6_begin_6 (by decide) ?_
  refine va_put (D := G.1) (ci := 6) (v := .int (0 : Int32)) (ty := .int) (C := RX6) (T := TX6) (N := 8) hx hb hts in_X6 tyX6 tyX6_ok nmX6 hown hK.1 hP hD hS 0 rfl rfl 5 (by decide) (hts _ q137) (fun _ h9 => h9) rfl (by decide +kernel) rfl rfl (Nat.le_of_ble_eq_true rfl) dX6_begin_7 (fun H locs hP hD hS => ?_)
  have hP : va_P G.1 gCl [oc h 6 [.ref h_0, .ref h_1, .ref h_2, .ref h_3, .int (0 : Int32), .int (0 : Int32), .int (yr b), .int (dw b)], ai G h_0 6 (kd b), ai G h_1 18 (pl b), ai G h_2 6 (lf b), ai G h_3 6 (se b)] H := hP
  have hD : va_D A [oc h 6 [.ref h_0, .ref h_1, .ref h_2, .ref h_3, .int (0 : Int32), .int (0 : Int32), .int (yr b), .int (dw b)], ai G h_0 6 (kd b), ai G h_1 18 (pl b), ai G h_2 6 (lf b), ai G h_3 6 (se b)] := hD
  refine lv_aload_n hx hb dX6_begin_10 rfl (lv_at hl 0 rfl) ?_
  refine lv_iconst (v := (0 : Int32)) hx hb dX6_begin_11 (by decide) ?_
  refine va_put (D := G.1) (ci := 6) (v := .int (0 : Int32)) (ty := .int) (C := RX6) (T := TX6) (N := 8) hx hb hts in_X6 tyX6 tyX6_ok nmX6 hown hK.1 hP hD hS 0 rfl rfl 6 (by decide) (hts _ q140) (fun _ h9 => h9) rfl (by decide +kernel) rfl rfl (Nat.le_of_ble_eq_true rfl) dX6_begin_12 (fun H locs hP hD hS => ?_)
  have hP : va_P G.1 gCl [oc h 6 [.ref h_0, .ref h_1, .ref h_2, .ref h_3, .int (0 : Int32), .int (0 : Int32), .int (0 : Int32), .int (dw b)], ai G h_0 6 (kd b), ai G h_1 18 (pl b), ai G h_2 6 (lf b), ai G h_3 6 (se b)] H := hP
  have hD : va_D A [oc h 6 [.ref h_0, .ref h_1, .ref h_2, .ref h_3, .int (0 : Int32), .int (0 : Int32), .int (0 : Int32), .int (dw b)], ai G h_0 6 (kd b), ai G h_1 18 (pl b), ai G h_2 6 (lf b), ai G h_3 6 (se b)] := hD
  have hP9 := hP
  have hD9 := hD
  exact W.vret hx hb hr (fun t ht hW => ⟨⟨((kd b), (pl b), (lf b), (se b), (0 : Int32), (0 : Int32), (0 : Int32), (dw b)), rfl, hw, by rw [ht]; exact hP9, hD9⟩, hS.F ht⟩) hS.2.2 dX6_begin_15

/-! BattleBench.Bench.takeYear(LBattleBench$Bench;)V -/
def wp_X6_takeYear (b : BT) (ba1 : BT) (Q : (BT) → Prop) : Prop :=
  (∀ f_1 : Nat → Int32, f_1 = va_cpy (lf ba1) (lf b) 0 0 6 → (∀ f_2 : Nat → Int32, f_2 = va_cpy (se ba1) (se b) 0 0 6 → Q ((kd b), (pl b), f_1, f_2, (mn b), (ma ba1), (yr ba1), (dw ba1))))
set_option maxHeartbeats 4000000 in
theorem mt_X6_takeYear (l : Launch) (G : GT) (h h_0 h_1 h_2 h_3 a1 a1_0 a1_1 a1_2 a1_3 : Nat) (sz : Nat) (b : BT) (ba1 : BT) (Q : (BT) → Prop) (hw : wp_X6_takeYear b ba1 Q) : Met l yX6_takeYear (ws_ yX6_takeYear cX6_takeYear 2 none) ({ frames := 1, cells := 0, slots := 0, locals := 64 } : Room) (va_Pc [.ref h, .ref a1] (fun U => U.heap.size = sz ∧ va_P G.1 gCl [oc h 6 [.ref h_0, .ref h_1, .ref h_2, .ref h_3, .int (mn b), .int (ma b), .int (yr b), .int (dw b)], ai G h_0 6 (kd b), ai G h_1 18 (pl b), ai G h_2 6 (lf b), ai G h_3 6 (se b), oc a1 6 [.ref a1_0, .ref a1_1, .ref a1_2, .ref a1_3, .int (mn ba1), .int (ma ba1), .int (yr ba1), .int (dw ba1)], ai G a1_0 6 (kd ba1), ai G a1_1 18 (pl ba1), ai G a1_2 6 (lf ba1), ai G a1_3 6 (se ba1)] U.heap ∧ gK G U ∧ va_D (fun _ => True) [oc h 6 [.ref h_0, .ref h_1, .ref h_2, .ref h_3, .int (mn b), .int (ma b), .int (yr b), .int (dw b)], ai G h_0 6 (kd b), ai G h_1 18 (pl b), ai G h_2 6 (lf b), ai G h_3 6 (se b), oc a1 6 [.ref a1_0, .ref a1_1, .ref a1_2, .ref a1_3, .int (mn ba1), .int (ma ba1), .int (yr ba1), .int (dw ba1)], ai G a1_0 6 (kd ba1), ai G a1_1 18 (pl ba1), ai G a1_2 6 (lf ba1), ai G a1_3 6 (se ba1)])) ((fun A => (va_Qv (fun (u : BT) => Q u) (fun u t => va_P G.1 gCl [oc h 6 [.ref h_0, .ref h_1, .ref h_2, .ref h_3, .int (mn u), .int (ma u), .int (yr u), .int (dw u)], ai G h_0 6 (kd u), ai G h_1 18 (pl u), ai G h_2 6 (lf u), ai G h_3 6 (se u), oc a1 6 [.ref a1_0, .ref a1_1, .ref a1_2, .ref a1_3, .int (mn ba1), .int (ma ba1), .int (yr ba1), .int (dw ba1)], ai G a1_0 6 (kd ba1), ai G a1_1 18 (pl ba1), ai G a1_2 6 (lf ba1), ai G a1_3 6 (se ba1)] t.heap ∧ va_D A [oc h 6 [.ref h_0, .ref h_1, .ref h_2, .ref h_3, .int (mn u), .int (ma u), .int (yr u), .int (dw u)], ai G h_0 6 (kd u), ai G h_1 18 (pl u), ai G h_2 6 (lf u), ai G h_3 6 (se u), oc a1 6 [.ref a1_0, .ref a1_1, .ref a1_2, .ref a1_3, .int (mn ba1), .int (ma ba1), .int (yr ba1), .int (dw ba1)], ai G a1_0 6 (kd ba1), ai G a1_1 18 (pl ba1), ai G a1_2 6 (lf ba1), ai G a1_3 6 (se ba1)]) A)) (va_A [oc h 6 [.ref h_0, .ref h_1, .ref h_2, .ref h_3, .int (mn b), .int (ma b), .int (yr b), .int (dw b)], ai G h_0 6 (kd b), ai G h_1 18 (pl b), ai G h_2 6 (lf b), ai G h_3 6 (se b), oc a1 6 [.ref a1_0, .ref a1_1, .ref a1_2, .ref a1_3, .int (mn ba1), .int (ma ba1), .int (yr ba1), .int (dw ba1)], ai G a1_0 6 (kd ba1), ai G a1_1 18 (pl ba1), ai G a1_2 6 (lf ba1), ai G a1_3 6 (se ba1)] sz)) 0 0 (va_A [oc h 6 [.ref h_0, .ref h_1, .ref h_2, .ref h_3, .int (mn b), .int (ma b), .int (yr b), .int (dw b)], ai G h_0 6 (kd b), ai G h_1 18 (pl b), ai G h_2 6 (lf b), ai G h_3 6 (se b), oc a1 6 [.ref a1_0, .ref a1_1, .ref a1_2, .ref a1_3, .int (mn ba1), .int (ma ba1), .int (yr ba1), .int (dw ba1)], ai G a1_0 6 (kd ba1), ai G a1_1 18 (pl ba1), ai G a1_2 6 (lf ba1), ai G a1_3 6 (se ba1)] sz) := by
  refine Met.ofW (cc := cX6_takeYear) (maxL := 2) (ret := none) (by decide) rfl ?_
  intro p e s m args below meth c s₁ B hml hv
  obtain ⟨rfl, hsz, hP, hK, hD0⟩ := hv
  have hx := B.exec
  have hb := B.bytes
  have hr := B.returns
  have hts := atoms_spec (ws := (ws_ yX6_takeYear cX6_takeYear 2 none)) B.pre
  have hts : ∀ w ∈ lw_all, w.before _ s = true := fun w h => hts w (List.mem_cons_of_mem _ h)
  have hown : s.vm.findClass RX6 = some m.cls := findClass_of_methodNamed B.named
  have hlocks := B.notSynchronized
  subst hsz
  have hD := hD0.self (sz := s.heap.size)
  generalize hAe : va_A [oc h 6 [.ref h_0, .ref h_1, .ref h_2, .ref h_3, .int (mn b), .int (ma b), .int (yr b), .int (dw b)], ai G h_0 6 (kd b), ai G h_1 18 (pl b), ai G h_2 6 (lf b), ai G h_3 6 (se b), oc a1 6 [.ref a1_0, .ref a1_1, .ref a1_2, .ref a1_3, .int (mn ba1), .int (ma ba1), .int (yr ba1), .int (dw ba1)], ai G a1_0 6 (kd ba1), ai G a1_1 18 (pl ba1), ai G a1_2 6 (lf ba1), ai G a1_3 6 (se ba1)] s.heap.size = A at hD ⊢
  have hA : ∀ q : Nat, s.heap.size ≤ q → A q := fun q h => by rw [← hAe]; exact Or.inr h
  have hS : va_S A s.heap s.heap [] := va_S.rf
  have C : Cx p s m meth c cX6_takeYear 2 none RX6 ([.ref h, .ref a1] : List Value).toArray G A := ⟨hx, hb, hr, hlocks, hml, hown, hts, hK, hA⟩
  have hl := lv_entry ([.ref h, .ref a1]) (n := 2) (Nat.le_of_ble_eq_true rfl)
  rw [lg_entry_eq]
  generalize (lg_sl ([.ref h, .ref a1]) ++ List.replicate (2 - (lg_sl ([.ref h, .ref a1])).length) Slot.unset).toArray = ls at hl ⊢
  have hl : lv_has ls 2 [(0, .ref h), (1, .ref a1)] := hl
  unfold wp_X6_takeYear at hw
  refine lv_aload_n hx hb dX6_takeYear_0 rfl (lv_at hl 1 rfl) ?_
  refine va_get (D := G.1) (ci := 6) (v := .ref a1_2) (C := RX6) (T := TX6) (N := 8) hx hb hts in_X6 hown hK.1 hP 5 rfl rfl 2 (by decide) (hts _ q131) (fun _ h9 => h9) rfl dX6_takeYear_1 ?_
  refine lv_iconst (v := (0 : Int32)) hx hb dX6_takeYear_4 (by decide) ?_
  refine lv_aload_n hx hb dX6_takeYear_5 rfl (lv_at hl 0 rfl) ?_
  refine va_get (D := G.1) (ci := 6) (v := .ref h_2) (C := RX6) (T := TX6) (N := 8) hx hb hts in_X6 hown hK.1 hP 0 rfl rfl 2 (by decide) (hts _ q131) (fun _ h9 => h9) rfl dX6_takeYear_6 ?_
  refine lv_iconst (v := (0 : Int32)) hx hb dX6_takeYear_9 (by decide) ?_
  refine lv_bipush (v := (6 : Int32)) hx hb dX6_takeYear_10 (by decide) ?_
  refine z_copyi hx hb (hml.trans hl.1.symm) hown (hts _ q438) (hts _ q440) (hts _ q439) (hts _ q68) hK.1 hP hD hS 8 3 0 0 rfl rfl rfl rfl rfl (by decide) (by decide) (by decide) (Nat.le_of_ble_eq_true rfl) (Nat.le_of_ble_eq_true rfl) (fun i _ => rfl) (Nat.le_of_ble_eq_true rfl) (Nat.le_of_ble_eq_true rfl) dX6_takeYear_12 (k1 := 0) (k2 := 0) (k3 := 6) rfl rfl rfl (fun f_1 ef_1 H locs hP hD hS => ?_)
  replace hw := hw f_1 ef_1
  have hP : va_P G.1 gCl [oc h 6 [.ref h_0, .ref h_1, .ref h_2, .ref h_3, .int (mn b), .int (ma b), .int (yr b), .int (dw b)], ai G h_0 6 (kd b), ai G h_1 18 (pl b), ai G h_2 6 f_1, ai G h_3 6 (se b), oc a1 6 [.ref a1_0, .ref a1_1, .ref a1_2, .ref a1_3, .int (mn ba1), .int (ma ba1), .int (yr ba1), .int (dw ba1)], ai G a1_0 6 (kd ba1), ai G a1_1 18 (pl ba1), ai G a1_2 6 (lf ba1), ai G a1_3 6 (se ba1)] H := hP
  have hD : va_D A [oc h 6 [.ref h_0, .ref h_1, .ref h_2, .ref h_3, .int (mn b), .int (ma b), .int (yr b), .int (dw b)], ai G h_0 6 (kd b), ai G h_1 18 (pl b), ai G h_2 6 f_1, ai G h_3 6 (se b), oc a1 6 [.ref a1_0, .ref a1_1, .ref a1_2, .ref a1_3, .int (mn ba1), .int (ma ba1), .int (yr ba1), .int (dw ba1)], ai G a1_0 6 (kd ba1), ai G a1_1 18 (pl ba1), ai G a1_2 6 (lf ba1), ai G a1_3 6 (se ba1)] := hD
  refine lv_aload_n hx hb dX6_takeYear_15 rfl (lv_at hl 1 rfl) ?_
  refine va_get (D := G.1) (ci := 6) (v := .ref a1_3) (C := RX6) (T := TX6) (N := 8) hx hb hts in_X6 hown hK.1 hP 5 rfl rfl 3 (by decide) (hts _ q133) (fun _ h9 => h9) rfl dX6_takeYear_16 ?_
  refine lv_iconst (v := (0 : Int32)) hx hb dX6_takeYear_19 (by decide) ?_
  refine lv_aload_n hx hb dX6_takeYear_20 rfl (lv_at hl 0 rfl) ?_
  refine va_get (D := G.1) (ci := 6) (v := .ref h_3) (C := RX6) (T := TX6) (N := 8) hx hb hts in_X6 hown hK.1 hP 0 rfl rfl 3 (by decide) (hts _ q133) (fun _ h9 => h9) rfl dX6_takeYear_21 ?_
  refine lv_iconst (v := (0 : Int32)) hx hb dX6_takeYear_24 (by decide) ?_
  refine lv_bipush (v := (6 : Int32)) hx hb dX6_takeYear_25 (by decide) ?_
  refine z_copyi hx hb (hml.trans hl.1.symm) hown (hts _ q438) (hts _ q440) (hts _ q439) (hts _ q68) hK.1 hP hD hS 9 4 0 0 rfl rfl rfl rfl rfl (by decide) (by decide) (by decide) (Nat.le_of_ble_eq_true rfl) (Nat.le_of_ble_eq_true rfl) (fun i _ => rfl) (Nat.le_of_ble_eq_true rfl) (Nat.le_of_ble_eq_true rfl) dX6_takeYear_27 (k1 := 0) (k2 := 0) (k3 := 6) rfl rfl rfl (fun f_2 ef_2 H locs hP hD hS => ?_)
  replace hw := hw f_2 ef_2
  have hP : va_P G.1 gCl [oc h 6 [.ref h_0, .ref h_1, .ref h_2, .ref h_3, .int (mn b), .int (ma b), .int (yr b), .int (dw b)], ai G h_0 6 (kd b), ai G h_1 18 (pl b), ai G h_2 6 f_1, ai G h_3 6 f_2, oc a1 6 [.ref a1_0, .ref a1_1, .ref a1_2, .ref a1_3, .int (mn ba1), .int (ma ba1), .int (yr ba1), .int (dw ba1)], ai G a1_0 6 (kd ba1), ai G a1_1 18 (pl ba1), ai G a1_2 6 (lf ba1), ai G a1_3 6 (se ba1)] H := hP
  have hD : va_D A [oc h 6 [.ref h_0, .ref h_1, .ref h_2, .ref h_3, .int (mn b), .int (ma b), .int (yr b), .int (dw b)], ai G h_0 6 (kd b), ai G h_1 18 (pl b), ai G h_2 6 f_1, ai G h_3 6 f_2, oc a1 6 [.ref a1_0, .ref a1_1, .ref a1_2, .ref a1_3, .int (mn ba1), .int (ma ba1), .int (yr ba1), .int (dw ba1)], ai G a1_0 6 (kd ba1), ai G a1_1 18 (pl ba1), ai G a1_2 6 (lf ba1), ai G a1_3 6 (se ba1)] := hD
  refine lv_aload_n hx hb dX6_takeYear_30 rfl (lv_at hl 0 rfl) ?_
  refine lv_aload_n hx hb dX6_takeYear_31 rfl (lv_at hl 1 rfl) ?_
  refine va_get (D := G.1) (ci := 6) (v := .int (ma ba1)) (C := RX6) (T := TX6) (N := 8) hx hb hts in_X6 hown hK.1 hP 5 rfl rfl 5 (by decide) (hts _ q137) (fun _ h9 => h9) rfl dX6_takeYear_32 ?_
  refine va_put (D := G.1) (ci := 6) (v := .int (ma ba1)) (ty := .int) (C := RX6) (T := TX6) (N := 8) hx hb hts in_X6 tyX6 tyX6_ok nmX6 hown hK.1 hP hD hS 0 rfl rfl 5 (by decide) (hts _ q137) (fun _ h9 => h9) rfl (by decide +kernel) rfl rfl (Nat.le_of_ble_eq_true rfl) dX6_takeYear_35 (fun H locs hP hD hS => ?_)
  have hP : va_P G.1 gCl [oc h 6 [.ref h_0, .ref h_1, .ref h_2, .ref h_3, .int (mn b), .int (ma ba1), .int (yr b), .int (dw b)], ai G h_0 6 (kd b), ai G h_1 18 (pl b), ai G h_2 6 f_1, ai G h_3 6 f_2, oc a1 6 [.ref a1_0, .ref a1_1, .ref a1_2, .ref a1_3, .int (mn ba1), .int (ma ba1), .int (yr ba1), .int (dw ba1)], ai G a1_0 6 (kd ba1), ai G a1_1 18 (pl ba1), ai G a1_2 6 (lf ba1), ai G a1_3 6 (se ba1)] H := hP
  have hD : va_D A [oc h 6 [.ref h_0, .ref h_1, .ref h_2, .ref h_3, .int (mn b), .int (ma ba1), .int (yr b), .int (dw b)], ai G h_0 6 (kd b), ai G h_1 18 (pl b), ai G h_2 6 f_1, ai G h_3 6 f_2, oc a1 6 [.ref a1_0, .ref a1_1, .ref a1_2, .ref a1_3, .int (mn ba1), .int (ma ba1), .int (yr ba1), .int (dw ba1)], ai G a1_0 6 (kd ba1), ai G a1_1 18 (pl ba1), ai G a1_2 6 (lf ba1), ai G a1_3 6 (se ba1)] := hD
  refine lv_aload_n hx hb dX6_takeYear_38 rfl (lv_at hl 0 rfl) ?_
  refine lv_aload_n hx hb dX6_takeYear_39 rfl (lv_at hl 1 rfl) ?_
  refine va_get (D := G.1) (ci := 6) (v := .int (yr ba1)) (C := RX6) (T := TX6) (N := 8) hx hb hts in_X6 hown hK.1 hP 5 rfl rfl 6 (by decide) (hts _ q140) (fun _ h9 => h9) rfl dX6_takeYear_40 ?_
  refine va_put (D := G.1) (ci := 6) (v := .int (yr ba1)) (ty := .int) (C := RX6) (T := TX6) (N := 8) hx hb hts in_X6 tyX6 tyX6_ok nmX6 hown hK.1 hP hD hS 0 rfl rfl 6 (by decide) (hts _ q140) (fun _ h9 => h9) rfl (by decide +kernel) rfl rfl (Nat.le_of_ble_eq_true rfl) dX6_takeYear_43 (fun H locs hP hD hS => ?_)
  have hP : va_P G.1 gCl [oc h 6 [.ref h_0, .ref h_1, .ref h_2, .ref h_3, .int (mn b), .int (ma ba1), .int (yr ba1), .int (dw b)], ai G h_0 6 (kd b), ai G h_1 18 (pl b), ai G h_2 6 f_1, ai G h_3 6 f_2, oc a1 6 [.ref a1_0, .ref a1_1, .ref a1_2, .ref a1_3, .int (mn ba1), .int (ma ba1), .int (yr ba1), .int (dw ba1)], ai G a1_0 6 (kd ba1), ai G a1_1 18 (pl ba1), ai G a1_2 6 (lf ba1), ai G a1_3 6 (se ba1)] H := hP
  have hD : va_D A [oc h 6 [.ref h_0, .ref h_1, .ref h_2, .ref h_3, .int (mn b), .int (ma ba1), .int (yr ba1), .int (dw b)], ai G h_0 6 (kd b), ai G h_1 18 (pl b), ai G h_2 6 f_1, ai G h_3 6 f_2, oc a1 6 [.ref a1_0, .ref a1_1, .ref a1_2, .ref a1_3, .int (mn ba1), .int (ma ba1), .int (yr ba1), .int (dw ba1)], ai G a1_0 6 (kd ba1), ai G a1_1 18 (pl ba1), ai G a1_2 6 (lf ba1), ai G a1_3 6 (se ba1)] := hD
  refine lv_aload_n hx hb dX6_takeYear_46 rfl (lv_at hl 0 rfl) ?_
  refine lv_aload_n hx hb dX6_takeYear_47 rfl (lv_at hl 1 rfl) ?_
  refine va_get (D := G.1) (ci := 6) (v := .int (dw ba1)) (C := RX6) (T := TX6) (N := 8) hx hb hts in_X6 hown hK.1 hP 5 rfl rfl 7 (by decide) (hts _ q142) (fun _ h9 => h9) rfl dX6_takeYear_48 ?_
  refine va_put (D := G.1) (ci := 6) (v := .int (dw ba1)) (ty := .int) (C := RX6) (T := TX6) (N := 8) hx hb hts in_X6 tyX6 tyX6_ok nmX6 hown hK.1 hP hD hS 0 rfl rfl 7 (by decide) (hts _ q142) (fun _ h9 => h9) rfl (by decide +kernel) rfl rfl (Nat.le_of_ble_eq_true rfl) dX6_takeYear_51 (fun H locs hP hD hS => ?_)
  have hP : va_P G.1 gCl [oc h 6 [.ref h_0, .ref h_1, .ref h_2, .ref h_3, .int (mn b), .int (ma ba1), .int (yr ba1), .int (dw ba1)], ai G h_0 6 (kd b), ai G h_1 18 (pl b), ai G h_2 6 f_1, ai G h_3 6 f_2, oc a1 6 [.ref a1_0, .ref a1_1, .ref a1_2, .ref a1_3, .int (mn ba1), .int (ma ba1), .int (yr ba1), .int (dw ba1)], ai G a1_0 6 (kd ba1), ai G a1_1 18 (pl ba1), ai G a1_2 6 (lf ba1), ai G a1_3 6 (se ba1)] H := hP
  have hD : va_D A [oc h 6 [.ref h_0, .ref h_1, .ref h_2, .ref h_3, .int (mn b), .int (ma ba1), .int (yr ba1), .int (dw ba1)], ai G h_0 6 (kd b), ai G h_1 18 (pl b), ai G h_2 6 f_1, ai G h_3 6 f_2, oc a1 6 [.ref a1_0, .ref a1_1, .ref a1_2, .ref a1_3, .int (mn ba1), .int (ma ba1), .int (yr ba1), .int (dw ba1)], ai G a1_0 6 (kd ba1), ai G a1_1 18 (pl ba1), ai G a1_2 6 (lf ba1), ai G a1_3 6 (se ba1)] := hD
  have hP9 := hP
  have hD9 := hD
  exact W.vret hx hb hr (fun t ht hW => ⟨⟨((kd b), (pl b), f_1, f_2, (mn b), (ma ba1), (yr ba1), (dw ba1)), rfl, hw, by rw [ht]; exact hP9, hD9⟩, hS.F ht⟩) hS.2.2 dX6_takeYear_54

/-! BattleBench.Bench.takeFrom(LBattleBench$Bench;)V -/
def wp_X6_takeFrom (b : BT) (ba1 : BT) (Q : (BT) → Prop) : Prop :=
  (∀ f_1 : Nat → Int32, f_1 = va_cpy (kd ba1) (kd b) 0 0 6 → (∀ f_2 : Nat → Int32, f_2 = va_cpy (pl ba1) (pl b) 0 0 18 → wp_X6_takeYear (f_1, f_2, (lf b), (se b), (mn b), (ma b), (yr b), (dw b)) ba1  (fun u_3 => Q ((kd u_3), (pl u_3), (lf u_3), (se u_3), (mn ba1), (ma u_3), (yr u_3), (dw u_3)))))
set_option maxHeartbeats 4000000 in
theorem mt_X6_takeFrom (l : Launch) (G : GT) (h h_0 h_1 h_2 h_3 a1 a1_0 a1_1 a1_2 a1_3 : Nat) (sz : Nat) (b : BT) (ba1 : BT) (Q : (BT) → Prop) (hw : wp_X6_takeFrom b ba1 Q) : Met l yX6_takeFrom (ws_ yX6_takeFrom cX6_takeFrom 2 none) ({ frames := 2, cells := 0, slots := 0, locals := 85 } : Room) (va_Pc [.ref h, .ref a1] (fun U => U.heap.size = sz ∧ va_P G.1 gCl [oc h 6 [.ref h_0, .ref h_1, .ref h_2, .ref h_3, .int (mn b), .int (ma b), .int (yr b), .int (dw b)], ai G h_0 6 (kd b), ai G h_1 18 (pl b), ai G h_2 6 (lf b), ai G h_3 6 (se b), oc a1 6 [.ref a1_0, .ref a1_1, .ref a1_2, .ref a1_3, .int (mn ba1), .int (ma ba1), .int (yr ba1), .int (dw ba1)], ai G a1_0 6 (kd ba1), ai G a1_1 18 (pl ba1), ai G a1_2 6 (lf ba1), ai G a1_3 6 (se ba1)] U.heap ∧ gK G U ∧ va_D (fun _ => True) [oc h 6 [.ref h_0, .ref h_1, .ref h_2, .ref h_3, .int (mn b), .int (ma b), .int (yr b), .int (dw b)], ai G h_0 6 (kd b), ai G h_1 18 (pl b), ai G h_2 6 (lf b), ai G h_3 6 (se b), oc a1 6 [.ref a1_0, .ref a1_1, .ref a1_2, .ref a1_3, .int (mn ba1), .int (ma ba1), .int (yr ba1), .int (dw ba1)], ai G a1_0 6 (kd ba1), ai G a1_1 18 (pl ba1), ai G a1_2 6 (lf ba1), ai G a1_3 6 (se ba1)])) ((fun A => (va_Qv (fun (u : BT) => Q u) (fun u t => va_P G.1 gCl [oc h 6 [.ref h_0, .ref h_1, .ref h_2, .ref h_3, .int (mn u), .int (ma u), .int (yr u), .int (dw u)], ai G h_0 6 (kd u), ai G h_1 18 (pl u), ai G h_2 6 (lf u), ai G h_3 6 (se u), oc a1 6 [.ref a1_0, .ref a1_1, .ref a1_2, .ref a1_3, .int (mn ba1), .int (ma ba1), .int (yr ba1), .int (dw ba1)], ai G a1_0 6 (kd ba1), ai G a1_1 18 (pl ba1), ai G a1_2 6 (lf ba1), ai G a1_3 6 (se ba1)] t.heap ∧ va_D A [oc h 6 [.ref h_0, .ref h_1, .ref h_2, .ref h_3, .int (mn u), .int (ma u), .int (yr u), .int (dw u)], ai G h_0 6 (kd u), ai G h_1 18 (pl u), ai G h_2 6 (lf u), ai G h_3 6 (se u), oc a1 6 [.ref a1_0, .ref a1_1, .ref a1_2, .ref a1_3, .int (mn ba1), .int (ma ba1), .int (yr ba1), .int (dw ba1)], ai G a1_0 6 (kd ba1), ai G a1_1 18 (pl ba1), ai G a1_2 6 (lf ba1), ai G a1_3 6 (se ba1)]) A)) (va_A [oc h 6 [.ref h_0, .ref h_1, .ref h_2, .ref h_3, .int (mn b), .int (ma b), .int (yr b), .int (dw b)], ai G h_0 6 (kd b), ai G h_1 18 (pl b), ai G h_2 6 (lf b), ai G h_3 6 (se b), oc a1 6 [.ref a1_0, .ref a1_1, .ref a1_2, .ref a1_3, .int (mn ba1), .int (ma ba1), .int (yr ba1), .int (dw ba1)], ai G a1_0 6 (kd ba1), ai G a1_1 18 (pl ba1), ai G a1_2 6 (lf ba1), ai G a1_3 6 (se ba1)] sz)) 0 0 (va_A [oc h 6 [.ref h_0, .ref h_1, .ref h_2, .ref h_3, .int (mn b), .int (ma b), .int (yr b), .int (dw b)], ai G h_0 6 (kd b), ai G h_1 18 (pl b), ai G h_2 6 (lf b), ai G h_3 6 (se b), oc a1 6 [.ref a1_0, .ref a1_1, .ref a1_2, .ref a1_3, .int (mn ba1), .int (ma ba1), .int (yr ba1), .int (dw ba1)], ai G a1_0 6 (kd ba1), ai G a1_1 18 (pl ba1), ai G a1_2 6 (lf ba1), ai G a1_3 6 (se ba1)] sz) := by
  refine Met.ofW (cc := cX6_takeFrom) (maxL := 2) (ret := none) (by decide) rfl ?_
  intro p e s m args below meth c s₁ B hml hv
  obtain ⟨rfl, hsz, hP, hK, hD0⟩ := hv
  have hx := B.exec
  have hb := B.bytes
  have hr := B.returns
  have hts := atoms_spec (ws := (ws_ yX6_takeFrom cX6_takeFrom 2 none)) B.pre
  have hts : ∀ w ∈ lw_all, w.before _ s = true := fun w h => hts w (List.mem_cons_of_mem _ h)
  have hown : s.vm.findClass RX6 = some m.cls := findClass_of_methodNamed B.named
  have hlocks := B.notSynchronized
  subst hsz
  have hD := hD0.self (sz := s.heap.size)
  generalize hAe : va_A [oc h 6 [.ref h_0, .ref h_1, .ref h_2, .ref h_3, .int (mn b), .int (ma b), .int (yr b), .int (dw b)], ai G h_0 6 (kd b), ai G h_1 18 (pl b), ai G h_2 6 (lf b), ai G h_3 6 (se b), oc a1 6 [.ref a1_0, .ref a1_1, .ref a1_2, .ref a1_3, .int (mn ba1), .int (ma ba1), .int (yr ba1), .int (dw ba1)], ai G a1_0 6 (kd ba1), ai G a1_1 18 (pl ba1), ai G a1_2 6 (lf ba1), ai G a1_3 6 (se ba1)] s.heap.size = A at hD ⊢
  have hA : ∀ q : Nat, s.heap.size ≤ q → A q := fun q h => by rw [← hAe]; exact Or.inr h
  have hS : va_S A s.heap s.heap [] := va_S.rf
  have C : Cx p s m meth c cX6_takeFrom 2 none RX6 ([.ref h, .ref a1] : List Value).toArray G A := ⟨hx, hb, hr, hlocks, hml, hown, hts, hK, hA⟩
  have hl := lv_entry ([.ref h, .ref a1]) (n := 2) (Nat.le_of_ble_eq_true rfl)
  rw [lg_entry_eq]
  generalize (lg_sl ([.ref h, .ref a1]) ++ List.replicate (2 - (lg_sl ([.ref h, .ref a1])).length) Slot.unset).toArray = ls at hl ⊢
  have hl : lv_has ls 2 [(0, .ref h), (1, .ref a1)] := hl
  unfold wp_X6_takeFrom at hw
  refine lv_aload_n hx hb dX6_takeFrom_0 rfl (lv_at hl 1 rfl) ?_
  refine va_get (D := G.1) (ci := 6) (v := .ref a1_0) (C := RX6) (T := TX6) (N := 8) hx hb hts in_X6 hown hK.1 hP 5 rfl rfl 0 (by decide) (hts _ q127) (fun _ h9 => h9) rfl dX6_takeFrom_1 ?_
  refine lv_iconst (v := (0 : Int32)) hx hb dX6_takeFrom_4 (by decide) ?_
  refine lv_aload_n hx hb dX6_takeFrom_5 rfl (lv_at hl 0 rfl) ?_
  refine va_get (D := G.1) (ci := 6) (v := .ref h_0) (C := RX6) (T := TX6) (N := 8) hx hb hts in_X6 hown hK.1 hP 0 rfl rfl 0 (by decide) (hts _ q127) (fun _ h9 => h9) rfl dX6_takeFrom_6 ?_
  refine lv_iconst (v := (0 : Int32)) hx hb dX6_takeFrom_9 (by decide) ?_
  refine lv_bipush (v := (6 : Int32)) hx hb dX6_takeFrom_10 (by decide) ?_
  refine z_copyi hx hb (hml.trans hl.1.symm) hown (hts _ q438) (hts _ q440) (hts _ q439) (hts _ q68) hK.1 hP hD hS 6 1 0 0 rfl rfl rfl rfl rfl (by decide) (by decide) (by decide) (Nat.le_of_ble_eq_true rfl) (Nat.le_of_ble_eq_true rfl) (fun i _ => rfl) (Nat.le_of_ble_eq_true rfl) (Nat.le_of_ble_eq_true rfl) dX6_takeFrom_12 (k1 := 0) (k2 := 0) (k3 := 6) rfl rfl rfl (fun f_1 ef_1 H locs hP hD hS => ?_)
  replace hw := hw f_1 ef_1
  have hP : va_P G.1 gCl [oc h 6 [.ref h_0, .ref h_1, .ref h_2, .ref h_3, .int (mn b), .int (ma b), .int (yr b), .int (dw b)], ai G h_0 6 f_1, ai G h_1 18 (pl b), ai G h_2 6 (lf b), ai G h_3 6 (se b), oc a1 6 [.ref a1_0, .ref a1_1, .ref a1_2, .ref a1_3, .int (mn ba1), .int (ma ba1), .int (yr ba1), .int (dw ba1)], ai G a1_0 6 (kd ba1), ai G a1_1 18 (pl ba1), ai G a1_2 6 (lf ba1), ai G a1_3 6 (se ba1)] H := hP
  have hD : va_D A [oc h 6 [.ref h_0, .ref h_1, .ref h_2, .ref h_3, .int (mn b), .int (ma b), .int (yr b), .int (dw b)], ai G h_0 6 f_1, ai G h_1 18 (pl b), ai G h_2 6 (lf b), ai G h_3 6 (se b), oc a1 6 [.ref a1_0, .ref a1_1, .ref a1_2, .ref a1_3, .int (mn ba1), .int (ma ba1), .int (yr ba1), .int (dw ba1)], ai G a1_0 6 (kd ba1), ai G a1_1 18 (pl ba1), ai G a1_2 6 (lf ba1), ai G a1_3 6 (se ba1)] := hD
  refine lv_aload_n hx hb dX6_takeFrom_15 rfl (lv_at hl 1 rfl) ?_
  refine va_get (D := G.1) (ci := 6) (v := .ref a1_1) (C := RX6) (T := TX6) (N := 8) hx hb hts in_X6 hown hK.1 hP 5 rfl rfl 1 (by decide) (hts _ q129) (fun _ h9 => h9) rfl dX6_takeFrom_16 ?_
  refine lv_iconst (v := (0 : Int32)) hx hb dX6_takeFrom_19 (by decide) ?_
  refine lv_aload_n hx hb dX6_takeFrom_20 rfl (lv_at hl 0 rfl) ?_
  refine va_get (D := G.1) (ci := 6) (v := .ref h_1) (C := RX6) (T := TX6) (N := 8) hx hb hts in_X6 hown hK.1 hP 0 rfl rfl 1 (by decide) (hts _ q129) (fun _ h9 => h9) rfl dX6_takeFrom_21 ?_
  refine lv_iconst (v := (0 : Int32)) hx hb dX6_takeFrom_24 (by decide) ?_
  refine lv_bipush (v := (18 : Int32)) hx hb dX6_takeFrom_25 (by decide) ?_
  refine z_copyi hx hb (hml.trans hl.1.symm) hown (hts _ q438) (hts _ q440) (hts _ q439) (hts _ q68) hK.1 hP hD hS 7 2 0 0 rfl rfl rfl rfl rfl (by decide) (by decide) (by decide) (Nat.le_of_ble_eq_true rfl) (Nat.le_of_ble_eq_true rfl) (fun i _ => rfl) (Nat.le_of_ble_eq_true rfl) (Nat.le_of_ble_eq_true rfl) dX6_takeFrom_27 (k1 := 0) (k2 := 0) (k3 := 18) rfl rfl rfl (fun f_2 ef_2 H locs hP hD hS => ?_)
  replace hw := hw f_2 ef_2
  have hP : va_P G.1 gCl [oc h 6 [.ref h_0, .ref h_1, .ref h_2, .ref h_3, .int (mn b), .int (ma b), .int (yr b), .int (dw b)], ai G h_0 6 f_1, ai G h_1 18 f_2, ai G h_2 6 (lf b), ai G h_3 6 (se b), oc a1 6 [.ref a1_0, .ref a1_1, .ref a1_2, .ref a1_3, .int (mn ba1), .int (ma ba1), .int (yr ba1), .int (dw ba1)], ai G a1_0 6 (kd ba1), ai G a1_1 18 (pl ba1), ai G a1_2 6 (lf ba1), ai G a1_3 6 (se ba1)] H := hP
  have hD : va_D A [oc h 6 [.ref h_0, .ref h_1, .ref h_2, .ref h_3, .int (mn b), .int (ma b), .int (yr b), .int (dw b)], ai G h_0 6 f_1, ai G h_1 18 f_2, ai G h_2 6 (lf b), ai G h_3 6 (se b), oc a1 6 [.ref a1_0, .ref a1_1, .ref a1_2, .ref a1_3, .int (mn ba1), .int (ma ba1), .int (yr ba1), .int (dw ba1)], ai G a1_0 6 (kd ba1), ai G a1_1 18 (pl ba1), ai G a1_2 6 (lf ba1), ai G a1_3 6 (se ba1)] := hD
  refine lv_aload_n hx hb dX6_takeFrom_30 rfl (lv_at hl 0 rfl) ?_
  refine lv_aload_n hx hb dX6_takeFrom_31 rfl (lv_at hl 1 rfl) ?_
  have hPc := hP.sub (ws' := [oc h 6 [.ref h_0, .ref h_1, .ref h_2, .ref h_3, .int (mn b), .int (ma b), .int (yr b), .int (dw b)], ai G h_0 6 f_1, ai G h_1 18 f_2, ai G h_2 6 (lf b), ai G h_3 6 (se b), oc a1 6 [.ref a1_0, .ref a1_1, .ref a1_2, .ref a1_3, .int (mn ba1), .int (ma ba1), .int (yr ba1), .int (dw ba1)], ai G a1_0 6 (kd ba1), ai G a1_1 18 (pl ba1), ai G a1_2 6 (lf ba1), ai G a1_3 6 (se ba1)]) [0, 1, 2, 3, 4, 5, 6, 7, 8, 9] rfl
  have hDc := hD.sub (ws' := [oc h 6 [.ref h_0, .ref h_1, .ref h_2, .ref h_3, .int (mn b), .int (ma b), .int (yr b), .int (dw b)], ai G h_0 6 f_1, ai G h_1 18 f_2, ai G h_2 6 (lf b), ai G h_3 6 (se b), oc a1 6 [.ref a1_0, .ref a1_1, .ref a1_2, .ref a1_3, .int (mn ba1), .int (ma ba1), .int (yr ba1), .int (dw ba1)], ai G a1_0 6 (kd ba1), ai G a1_1 18 (pl ba1), ai G a1_2 6 (lf ba1), ai G a1_3 6 (se ba1)]) [0, 1, 2, 3, 4, 5, 6, 7, 8, 9] (by decide) rfl
  have hFc := va_free (wc := [oc h 6 [.ref h_0, .ref h_1, .ref h_2, .ref h_3, .int (mn b), .int (ma b), .int (yr b), .int (dw b)], ai G h_0 6 f_1, ai G h_1 18 f_2, ai G h_2 6 (lf b), ai G h_3 6 (se b), oc a1 6 [.ref a1_0, .ref a1_1, .ref a1_2, .ref a1_3, .int (mn ba1), .int (ma ba1), .int (yr ba1), .int (dw ba1)], ai G a1_0 6 (kd ba1), ai G a1_1 18 (pl ba1), ai G a1_2 6 (lf ba1), ai G a1_3 6 (se ba1)]) hD hS hA [0, 1, 2, 3, 4, 5, 6, 7, 8, 9] rfl
  refine va_callv (va_runV (As := [.ref a1]) (rest := []) ⟨hx, hb, hml, hown, hts⟩ (mt_X6_takeYear l G h h_0 h_1 h_2 h_3 a1 a1_0 a1_1 a1_2 a1_3 H.size (f_1, f_2, (lf b), (se b), (mn b), (ma b), (yr b), (dw b)) ba1  _ hw) (cwV 1 hts (lw_V q441 q442 q443 q60 q444) rfl rfl rfl (by decide +kernel) ⟨Nat.le_of_ble_eq_true rfl, Nat.le_of_ble_eq_true rfl⟩) ⟨fun a U g mk q => by obtain ⟨q0, q1, qP, qK, qD⟩ := q; exact ⟨q0, q1, qP, qK.call, qD⟩, va_recv hK.1 hP (ci := 6) (q0 := 0) rfl rfl, fun U hU hW => ⟨rfl, by rw [hU], by rw [hU]; exact hPc, hK.warm hW, hDc.weaken (fun _ _ _ _ => trivial)⟩⟩ rfl rfl hl.1 rfl (lv_room (Nat.le_of_ble_eq_true rfl)) dX6_takeFrom_32 ⟨Nat.le_of_ble_eq_true rfl, Nat.le_of_ble_eq_true rfl⟩) hS (fun q _ h => hFc q h) hFc (fun u_3 t H1 locs ht hvm hw hB hz1 hk1 hS => ?_)
  obtain ⟨hP1, hD1⟩ := hB
  rw [ht] at hP1
  obtain ⟨hP, hD⟩ := va_join (wr := []) (w1 := [oc h 6 [.ref h_0, .ref h_1, .ref h_2, .ref h_3, .int (mn u_3), .int (ma u_3), .int (yr u_3), .int (dw u_3)], ai G h_0 6 (kd u_3), ai G h_1 18 (pl u_3), ai G h_2 6 (lf u_3), ai G h_3 6 (se u_3), oc a1 6 [.ref a1_0, .ref a1_1, .ref a1_2, .ref a1_3, .int (mn ba1), .int (ma ba1), .int (yr ba1), .int (dw ba1)], ai G a1_0 6 (kd ba1), ai G a1_1 18 (pl ba1), ai G a1_2 6 (lf ba1), ai G a1_3 6 (se ba1)]) hP hD [0, 1, 2, 3, 4, 5, 6, 7, 8, 9] [] rfl rfl (by decide) (by decide) hk1 hFc hP1 hD1
  clear hPc hDc hFc hP1 hD1 hz1 hk1 hvm
  generalize H1 = H at hP hS ⊢
  have hP : va_P G.1 gCl [oc h 6 [.ref h_0, .ref h_1, .ref h_2, .ref h_3, .int (mn u_3), .int (ma u_3), .int (yr u_3), .int (dw u_3)], ai G h_0 6 (kd u_3), ai G h_1 18 (pl u_3), ai G h_2 6 (lf u_3), ai G h_3 6 (se u_3), oc a1 6 [.ref a1_0, .ref a1_1, .ref a1_2, .ref a1_3, .int (mn ba1), .int (ma ba1), .int (yr ba1), .int (dw ba1)], ai G a1_0 6 (kd ba1), ai G a1_1 18 (pl ba1), ai G a1_2 6 (lf ba1), ai G a1_3 6 (se ba1)] H := hP
  have hD : va_D A [oc h 6 [.ref h_0, .ref h_1, .ref h_2, .ref h_3, .int (mn u_3), .int (ma u_3), .int (yr u_3), .int (dw u_3)], ai G h_0 6 (kd u_3), ai G h_1 18 (pl u_3), ai G h_2 6 (lf u_3), ai G h_3 6 (se u_3), oc a1 6 [.ref a1_0, .ref a1_1, .ref a1_2, .ref a1_3, .int (mn ba1), .int (ma ba1), .int (yr ba1), .int (dw ba1)], ai G a1_0 6 (kd ba1), ai G a1_1 18 (pl ba1), ai G a1_2 6 (lf ba1), ai G a1_3 6 (se ba1)] := hD
  refine lv_aload_n hx hb dX6_takeFrom_35 rfl (lv_at hl 0 rfl) ?_
  refine lv_aload_n hx hb dX6_takeFrom_36 rfl (lv_at hl 1 rfl) ?_
  refine va_get (D := G.1) (ci := 6) (v := .int (mn ba1)) (C := RX6) (T := TX6) (N := 8) hx hb hts in_X6 hown hK.1 hP 5 rfl rfl 4 (by decide) (hts _ q135) (fun _ h9 => h9) rfl dX6_takeFrom_37 ?_
  refine va_put (D := G.1) (ci := 6) (v := .int (mn ba1)) (ty := .int) (C := RX6) (T := TX6) (N := 8) hx hb hts in_X6 tyX6 tyX6_ok nmX6 hown hK.1 hP hD hS 0 rfl rfl 4 (by decide) (hts _ q135) (fun _ h9 => h9) rfl (by decide +kernel) rfl rfl (Nat.le_of_ble_eq_true rfl) dX6_takeFrom_40 (fun H locs hP hD hS => ?_)
  have hP : va_P G.1 gCl [oc h 6 [.ref h_0, .ref h_1, .ref h_2, .ref h_3, .int (mn ba1), .int (ma u_3), .int (yr u_3), .int (dw u_3)], ai G h_0 6 (kd u_3), ai G h_1 18 (pl u_3), ai G h_2 6 (lf u_3), ai G h_3 6 (se u_3), oc a1 6 [.ref a1_0, .ref a1_1, .ref a1_2, .ref a1_3, .int (mn ba1), .int (ma ba1), .int (yr ba1), .int (dw ba1)], ai G a1_0 6 (kd ba1), ai G a1_1 18 (pl ba1), ai G a1_2 6 (lf ba1), ai G a1_3 6 (se ba1)] H := hP
  have hD : va_D A [oc h 6 [.ref h_0, .ref h_1, .ref h_2, .ref h_3, .int (mn ba1), .int (ma u_3), .int (yr u_3), .int (dw u_3)], ai G h_0 6 (kd u_3), ai G h_1 18 (pl u_3), ai G h_2 6 (lf u_3), ai G h_3 6 (se u_3), oc a1 6 [.ref a1_0, .ref a1_1, .ref a1_2, .ref a1_3, .int (mn ba1), .int (ma ba1), .int (yr ba1), .int (dw ba1)], ai G a1_0 6 (kd ba1), ai G a1_1 18 (pl ba1), ai G a1_2 6 (lf ba1), ai G a1_3 6 (se ba1)] := hD
  have hP9 := hP
  have hD9 := hD
  exact W.vret hx hb hr (fun t ht hW => ⟨⟨((kd u_3), (pl u_3), (lf u_3), (se u_3), (mn ba1), (ma u_3), (yr u_3), (dw u_3)), rfl, hw, by rw [ht]; exact hP9, hD9⟩, hS.F ht⟩) hS.2.2 dX6_takeFrom_43
