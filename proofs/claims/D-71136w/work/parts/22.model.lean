set_option maxRecDepth 100000
/-! BattleBenchModel.isAhead(II)Z -/
def wp_X9_isAhead (p0 : Int32) (p1 : Int32) (Q : Int32 → Prop) : Prop :=
  (∀ v_1 : Int32, v_1 = (p0 ^^^ p1) → (((((v_1 &&& (-v_1)) &&& p0) = 0) → Q (0 : Int32)) ∧ (¬ (((v_1 &&& (-v_1)) &&& p0) = 0) → Q (1 : Int32))))
set_option maxHeartbeats 4000000 in
theorem mt_X9_isAhead (l : Launch) (G : GT)  (sz : Nat) (p0 : Int32) (p1 : Int32) (Q : Int32 → Prop) (hw : wp_X9_isAhead p0 p1 Q) : Met l yX9_isAhead (ws_ yX9_isAhead cX9_isAhead 3 (some .boolean)) ({ frames := 0, cells := 0, slots := 0, locals := 0 } : Room) (va_Pc [.int p0, .int p1] (fun U => U.heap.size = sz ∧ va_P G.1 gCl [] U.heap ∧ gK G U ∧ va_D (fun _ => True) [])) ((fun A => (va_Qi (fun (r : Int32) (u : Unit) => Q r ) (fun u t => va_P G.1 gCl [] t.heap ∧ va_D A []) A)) (va_A [] sz)) 0 0 (va_A [] sz) := by
  refine Met.ofW (cc := cX9_isAhead) (maxL := 3) (ret := (some .boolean)) (by decide) rfl ?_
  intro p e s m args below meth c s₁ B hml hv
  obtain ⟨rfl, hsz, hP, hK, hD0⟩ := hv
  have hx := B.exec
  have hb := B.bytes
  have hr := B.returns
  have hts := atoms_spec (ws := (ws_ yX9_isAhead cX9_isAhead 3 (some .boolean))) B.pre
  have hts : ∀ w ∈ lw_all, w.before _ s = true := fun w h => hts w (List.mem_cons_of_mem _ h)
  have hown : s.vm.findClass RX9 = some m.cls := findClass_of_methodNamed B.named
  have hlocks := B.notSynchronized
  subst hsz
  have hD := hD0.self (sz := s.heap.size)
  generalize hAe : va_A [] s.heap.size = A at hD ⊢
  have hA : ∀ q : Nat, s.heap.size ≤ q → A q := fun q h => by rw [← hAe]; exact Or.inr h
  have hS : va_S A s.heap s.heap [] := va_S.rf
  have C : Cx p s m meth c cX9_isAhead 3 (some .boolean) RX9 ([.int p0, .int p1] : List Value).toArray G A := ⟨hx, hb, hr, hlocks, hml, hown, hts, hK, hA⟩
  have hl := lv_entry ([.int p0, .int p1]) (n := 3) (Nat.le_of_ble_eq_true rfl)
  rw [lg_entry_eq]
  generalize (lg_sl ([.int p0, .int p1]) ++ List.replicate (3 - (lg_sl ([.int p0, .int p1])).length) Slot.unset).toArray = ls at hl ⊢
  have hl : lv_has ls 3 [(0, .int p0), (1, .int p1)] := hl
  unfold wp_X9_isAhead at hw
  refine lv_iload_n hx hb dX9_isAhead_0 rfl (lv_at hl 0 rfl) ?_
  refine lv_iload_n hx hb dX9_isAhead_1 rfl (lv_at hl 1 rfl) ?_
  refine lv_ixor hx hb dX9_isAhead_2 ?_
  refine lv_topi (fun v_1 ev_1 => ?_)
  replace hw := hw v_1 ev_1
  refine lv_istore_n (lv' := [(2, .int v_1), (0, .int p0), (1, .int p1)]) hx hb dX9_isAhead_3 rfl hl (by decide) rfl (fun ls hl => ?_)
  refine lv_iload_n hx hb dX9_isAhead_4 rfl (lv_at hl 0 rfl) ?_
  refine lv_iload_n hx hb dX9_isAhead_5 rfl (lv_at hl 0 rfl) ?_
  refine lv_ineg hx hb dX9_isAhead_6 ?_
  refine lv_iand hx hb dX9_isAhead_7 ?_
  refine lv_iload_n hx hb dX9_isAhead_8 rfl (lv_at hl 1 rfl) ?_
  refine lv_iand hx hb dX9_isAhead_9 ?_
  refine lv_if_eq (tgt := 17) hx hb dX9_isAhead_10 (by decide) (fun c_2 => ?_) (fun c_2 => ?_)
  · replace hw := hw.1 c_2
    refine lv_iconst (v := (0 : Int32)) hx hb dX9_isAhead_17 (by decide) ?_
    have hP9 := hP
    have hD9 := hD
    exact W.zret (v := (0 : Int32)) hx hb hr rfl (fun t ht hW => ⟨⟨(0 : Int32), (), rfl, hw, by rw [ht]; exact hP9, hD9⟩, hS.F ht⟩) hS.2.2 dX9_isAhead_18
  · replace hw := hw.2 c_2
    refine lv_iconst (v := (1 : Int32)) hx hb dX9_isAhead_13 (by decide) ?_
    refine lv_goto (tgt := 18) hx hb dX9_isAhead_14 (by decide) ?_
    have hP9 := hP
    have hD9 := hD
    exact W.zret (v := (1 : Int32)) hx hb hr rfl (fun t ht hW => ⟨⟨(1 : Int32), (), rfl, hw, by rw [ht]; exact hP9, hD9⟩, hS.F ht⟩) hS.2.2 dX9_isAhead_18
/-! BattleBenchModel.isOrder(II)Z -/
def wp_X9_isOrder_8 (sv : Nat → Int32) (p1 : Int32) (p2 : Int32) (Q : Int32 → Prop)  : Nat → Int32 → Int32 → Int32 → Prop
  | 0, _, _, _ => False
  | n + 1, x3, x4, x5 =>
    ((((sv 1) ≤ x5) → (z01 x3 ∧ Q x3)) ∧ (¬ ((sv 1) ≤ x5) → wp_X9_has  p1 x5 (fun r_2 => (((r_2 = 0) → wp_X9_isOrder_8 sv p1 p2 Q  n x3 x4 (x5 + (1 : Int32))) ∧ (¬ (r_2 = 0) → (((x3 = 0) → wp_X9_placeOn sv x5 p2 (fun r_5 => wp_X9_isOrder_8 sv p1 p2 Q  n (0 : Int32) r_5 (x5 + (1 : Int32)))) ∧ (¬ (x3 = 0) → wp_X9_placeOn sv x5 p2 (fun r_6 => (((r_6 ≤ x4) → wp_X9_placeOn sv x5 p2 (fun r_8 => wp_X9_isOrder_8 sv p1 p2 Q  n (0 : Int32) r_8 (x5 + (1 : Int32)))) ∧ (¬ (r_6 ≤ x4) → wp_X9_placeOn sv x5 p2 (fun r_9 => wp_X9_isOrder_8 sv p1 p2 Q  n (1 : Int32) r_9 (x5 + (1 : Int32)))))))))))))
set_option maxHeartbeats 4000000 in
theorem wk_X9_isOrder_8 {p : Program} {l : Launch} {e : Env} {s : State} {m : MethodId} {below : List Frame} {meth : Method} {c : Code} {args : Array Value} {G : GT} {A : Nat → Prop} (h h_s h_images h_tape h_draft h_items h_moved h_sizes h_lanes h_less h_aside h_order : Nat) (kept : Int32) (typed : Int32) (atv : Int32) (sv : Nat → Int32) (p1 : Int32) (p2 : Int32) (Q : Int32 → Prop)  (C : Cx p s m meth c cX9_isOrder 6 (some .boolean) RX9 args G A)  :
    ∀ (n : Nat), ∀  (x3 : Int32) (x4 : Int32) (x5 : Int32) (H : Heap) (locs : List Loc), va_P G.1 gCl [oc h 9 [.ref h_s, .ref h_images, .int kept, .ref h_tape, .int typed, .ref h_draft, .int atv, .ref h_items, .ref h_moved, .ref h_sizes, .ref h_lanes, .ref h_less, .ref h_aside, .ref h_order], ai G h_s 161 sv] H → va_D A [oc h 9 [.ref h_s, .ref h_images, .int kept, .ref h_tape, .int typed, .ref h_draft, .int atv, .ref h_items, .ref h_moved, .ref h_sizes, .ref h_lanes, .ref h_less, .ref h_aside, .ref h_order], ai G h_s 161 sv] → va_S A s.heap H locs → ∀ (ls : Array Slot), lv_has ls 6 [(0, .ref h), (1, .int p1), (2, .int p2), (3, .int x3), (4, .int x4), (5, .int x5)] → wp_X9_isOrder_8 sv p1 p2 Q  n x3 x4 x5 → W p l e ({ frames := 1, cells := 0, slots := 0, locals := 22 } : Room) s m args below meth c H locs 0 0 (MQ below (va_Qi (fun (r : Int32) (u : Unit) => Q r ) (fun u t => va_P G.1 gCl [oc h 9 [.ref h_s, .ref h_images, .int kept, .ref h_tape, .int typed, .ref h_draft, .int atv, .ref h_items, .ref h_moved, .ref h_sizes, .ref h_lanes, .ref h_less, .ref h_aside, .ref h_order], ai G h_s 161 sv] t.heap ∧ va_D A [oc h 9 [.ref h_s, .ref h_images, .int kept, .ref h_tape, .int typed, .ref h_draft, .int atv, .ref h_items, .ref h_moved, .ref h_sizes, .ref h_lanes, .ref h_less, .ref h_aside, .ref h_order], ai G h_s 161 sv]) A) args s 0 0 A) (F0 m 8 ls []) := by
  have C9 := C
  obtain ⟨hx, hb, hr, hlocks, hml, hown, hts, hK, hA⟩ := C9
  intro n
  induction n with
  | zero => intro x3 x4 x5 H locs hP hD hS ls hl hw; exact False.elim hw
  | succ n ih =>
    intro x3 x4 x5 H locs hP hD hS ls hl hw
    unfold wp_X9_isOrder_8 at hw
    refine lv_iload hx hb dX9_isOrder_8 (lv_at hl 5 rfl) ?_
    refine lv_aload_n hx hb dX9_isOrder_10 rfl (lv_at hl 0 rfl) ?_
    refine va_get (D := G.1) (ci := 9) (v := .ref h_s) (C := RX9) (T := TX9) (N := 14) hx hb hts in_X9 hown hK.1 hP 0 rfl rfl 0 (by decide) (hts _ q817) (fun _ h9 => h9) rfl dX9_isOrder_11 ?_
    refine lv_iconst (v := (1 : Int32)) hx hb dX9_isOrder_14 (by decide) ?_
    refine z_iald hx hb hK.1 hP 1 0 rfl rfl (vin_l (by decide +kernel)) dX9_isOrder_15 (k := 1) rfl ?_
    refine lv_icmp_ge (tgt := 65) hx hb dX9_isOrder_16 (by decide) (fun c_1 => ?_) (fun c_1 => ?_)
    · replace hw := hw.1 c_1
      refine lv_iload_n hx hb dX9_isOrder_65 rfl (lv_at hl 3 rfl) ?_
      obtain ⟨hz, hw⟩ := hw
      have hP9 := hP
      have hD9 := hD
      exact W.zret (v := x3) hx hb hr (z01.nar hz) (fun t ht hW => ⟨⟨x3, (), rfl, hw, by rw [ht]; exact hP9, hD9⟩, hS.F ht⟩) hS.2.2 dX9_isOrder_66
    · replace hw := hw.2 c_1
      refine lv_iload_n hx hb dX9_isOrder_19 rfl (lv_at hl 1 rfl) ?_
      refine lv_iload hx hb dX9_isOrder_20 (lv_at hl 5 rfl) ?_
      have hPc := hP.sub (ws' := []) [] rfl
      have hDc := hD.sub (ws' := []) [] (by decide) rfl
      have hFc := va_free (wc := []) hD hS hA [] rfl
      refine va_calli (va_runS (As := [.int p1, .int x5]) (rest := []) ⟨hx, hb, hml, hown, hts⟩ (mt_X9_has l G  H.size  p1 x5 _ hw) (va_cwS 2 hts (lw_S q976 q977 q65 q978) rfl rfl rfl (by decide +kernel) ⟨Nat.le_of_ble_eq_true rfl, Nat.le_of_ble_eq_true rfl⟩) ⟨fun a U g mk q => by obtain ⟨q0, q1, qP, qK, qD⟩ := q; exact ⟨q0, q1, qP, qK.call, qD⟩, fun U hU hW => ⟨rfl, by rw [hU], by rw [hU]; exact hPc, hK.warm hW, hDc.weaken (fun _ _ _ _ => trivial)⟩⟩ rfl rfl hl.1 rfl (lv_room (Nat.le_of_ble_eq_true rfl)) dX9_isOrder_22 ⟨Nat.le_of_ble_eq_true rfl, Nat.le_of_ble_eq_true rfl⟩) hS (fun q _ h => hFc q h) hFc (fun r_2 _ t H1 locs ht hvm hw hB hz1 hk1 hS => ?_)
      obtain ⟨hP1, hD1⟩ := hB
      rw [ht] at hP1
      obtain ⟨hP, hD⟩ := va_join (wr := [oc h 9 [.ref h_s, .ref h_images, .int kept, .ref h_tape, .int typed, .ref h_draft, .int atv, .ref h_items, .ref h_moved, .ref h_sizes, .ref h_lanes, .ref h_less, .ref h_aside, .ref h_order], ai G h_s 161 sv]) (w1 := []) hP hD [] [0, 1] rfl rfl (by decide) (by decide) hk1 hFc hP1 hD1
      clear hPc hDc hFc hP1 hD1 hz1 hk1 hvm
      generalize H1 = H at hP hS ⊢
      have hP : va_P G.1 gCl [oc h 9 [.ref h_s, .ref h_images, .int kept, .ref h_tape, .int typed, .ref h_draft, .int atv, .ref h_items, .ref h_moved, .ref h_sizes, .ref h_lanes, .ref h_less, .ref h_aside, .ref h_order], ai G h_s 161 sv] H := hP
      have hD : va_D A [oc h 9 [.ref h_s, .ref h_images, .int kept, .ref h_tape, .int typed, .ref h_draft, .int atv, .ref h_items, .ref h_moved, .ref h_sizes, .ref h_lanes, .ref h_less, .ref h_aside, .ref h_order], ai G h_s 161 sv] := hD
      refine lv_if_eq (tgt := 59) hx hb dX9_isOrder_25 (by decide) (fun c_3 => ?_) (fun c_3 => ?_)
      · replace hw := hw.1 c_3
        refine lv_iinc (v := (x5 + (1 : Int32))) (lv' := [(5, .int (x5 + (1 : Int32))), (0, .ref h), (1, .int p1), (2, .int p2), (3, .int x3), (4, .int x4)]) hx hb dX9_isOrder_59 hl (k := 5) rfl rfl (by decide) rfl (fun ls hl => ?_)
        refine lv_goto (tgt := 8) hx hb dX9_isOrder_62 (by decide) ?_
        exact ih x3 x4 (x5 + (1 : Int32)) H locs hP hD hS ls (lv_sub hl [1, 2, 3, 4, 5, 0] rfl) hw
      · replace hw := hw.2 c_3
        refine lv_iload_n hx hb dX9_isOrder_28 rfl (lv_at hl 3 rfl) ?_
        refine lv_if_eq (tgt := 48) hx hb dX9_isOrder_29 (by decide) (fun c_4 => ?_) (fun c_4 => ?_)
        · replace hw := hw.1 c_4
          refine lv_iconst (v := (0 : Int32)) hx hb dX9_isOrder_48 (by decide) ?_
          refine lv_istore_n (lv' := [(3, .int (0 : Int32)), (0, .ref h), (1, .int p1), (2, .int p2), (4, .int x4), (5, .int x5)]) hx hb dX9_isOrder_49 rfl hl (by decide) rfl (fun ls hl => ?_)
          refine lv_aload_n hx hb dX9_isOrder_50 rfl (lv_at hl 1 rfl) ?_
          refine lv_iload hx hb dX9_isOrder_51 (lv_at hl 5 rfl) ?_
          refine lv_iload_n hx hb dX9_isOrder_53 rfl (lv_at hl 3 rfl) ?_
          have hPc := hP.sub (ws' := [oc h 9 [.ref h_s, .ref h_images, .int kept, .ref h_tape, .int typed, .ref h_draft, .int atv, .ref h_items, .ref h_moved, .ref h_sizes, .ref h_lanes, .ref h_less, .ref h_aside, .ref h_order], ai G h_s 161 sv]) [0, 1] rfl
          have hDc := hD.sub (ws' := [oc h 9 [.ref h_s, .ref h_images, .int kept, .ref h_tape, .int typed, .ref h_draft, .int atv, .ref h_items, .ref h_moved, .ref h_sizes, .ref h_lanes, .ref h_less, .ref h_aside, .ref h_order], ai G h_s 161 sv]) [0, 1] (by decide) rfl
          have hFc := va_free (wc := [oc h 9 [.ref h_s, .ref h_images, .int kept, .ref h_tape, .int typed, .ref h_draft, .int atv, .ref h_items, .ref h_moved, .ref h_sizes, .ref h_lanes, .ref h_less, .ref h_aside, .ref h_order], ai G h_s 161 sv]) hD hS hA [0, 1] rfl
          refine va_calli (va_runV (As := [.int x5, .int p2]) (rest := []) ⟨hx, hb, hml, hown, hts⟩ (mt_X9_placeOn l G h h_s h_images h_tape h_draft h_items h_moved h_sizes h_lanes h_less h_aside h_order H.size kept typed atv sv x5 p2 _ hw) (cwV 2 hts (lw_V q1038 q1040 qs47 q65 q1041) rfl rfl rfl (by decide +kernel) ⟨Nat.le_of_ble_eq_true rfl, Nat.le_of_ble_eq_true rfl⟩) ⟨fun a U g mk q => by obtain ⟨q0, q1, qP, qK, qD⟩ := q; exact ⟨q0, q1, qP, qK.call, qD⟩, va_recv hK.1 hP (ci := 9) (q0 := 0) rfl rfl, fun U hU hW => ⟨rfl, by rw [hU], by rw [hU]; exact hPc, hK.warm hW, hDc.weaken (fun _ _ _ _ => trivial)⟩⟩ rfl rfl hl.1 rfl (lv_room (Nat.le_of_ble_eq_true rfl)) dX9_isOrder_54 ⟨Nat.le_of_ble_eq_true rfl, Nat.le_of_ble_eq_true rfl⟩) hS (fun q _ h => hFc q h) hFc (fun r_5 _ t H1 locs ht hvm hw hB hz1 hk1 hS => ?_)
          obtain ⟨hP1, hD1⟩ := hB
          rw [ht] at hP1
          obtain ⟨hP, hD⟩ := va_join (wr := []) (w1 := [oc h 9 [.ref h_s, .ref h_images, .int kept, .ref h_tape, .int typed, .ref h_draft, .int atv, .ref h_items, .ref h_moved, .ref h_sizes, .ref h_lanes, .ref h_less, .ref h_aside, .ref h_order], ai G h_s 161 sv]) hP hD [0, 1] [] rfl rfl (by decide) (by decide) hk1 hFc hP1 hD1
          clear hPc hDc hFc hP1 hD1 hz1 hk1 hvm
          generalize H1 = H at hP hS ⊢
          have hP : va_P G.1 gCl [oc h 9 [.ref h_s, .ref h_images, .int kept, .ref h_tape, .int typed, .ref h_draft, .int atv, .ref h_items, .ref h_moved, .ref h_sizes, .ref h_lanes, .ref h_less, .ref h_aside, .ref h_order], ai G h_s 161 sv] H := hP
          have hD : va_D A [oc h 9 [.ref h_s, .ref h_images, .int kept, .ref h_tape, .int typed, .ref h_draft, .int atv, .ref h_items, .ref h_moved, .ref h_sizes, .ref h_lanes, .ref h_less, .ref h_aside, .ref h_order], ai G h_s 161 sv] := hD
          refine lv_istore (lv' := [(4, .int r_5), (3, .int (0 : Int32)), (0, .ref h), (1, .int p1), (2, .int p2), (5, .int x5)]) hx hb dX9_isOrder_57 hl (by decide) rfl (fun ls hl => ?_)
          refine lv_iinc (v := (x5 + (1 : Int32))) (lv' := [(5, .int (x5 + (1 : Int32))), (4, .int r_5), (3, .int (0 : Int32)), (0, .ref h), (1, .int p1), (2, .int p2)]) hx hb dX9_isOrder_59 hl (k := 5) rfl rfl (by decide) rfl (fun ls hl => ?_)
          refine lv_goto (tgt := 8) hx hb dX9_isOrder_62 (by decide) ?_
          exact ih (0 : Int32) r_5 (x5 + (1 : Int32)) H locs hP hD hS ls (lv_sub hl [3, 4, 5, 2, 1, 0] rfl) hw
        · replace hw := hw.2 c_4
          refine lv_aload_n hx hb dX9_isOrder_32 rfl (lv_at hl 0 rfl) ?_
          refine lv_iload hx hb dX9_isOrder_33 (lv_at hl 5 rfl) ?_
          refine lv_iload_n hx hb dX9_isOrder_35 rfl (lv_at hl 2 rfl) ?_
          have hPc := hP.sub (ws' := [oc h 9 [.ref h_s, .ref h_images, .int kept, .ref h_tape, .int typed, .ref h_draft, .int atv, .ref h_items, .ref h_moved, .ref h_sizes, .ref h_lanes, .ref h_less, .ref h_aside, .ref h_order], ai G h_s 161 sv]) [0, 1] rfl
          have hDc := hD.sub (ws' := [oc h 9 [.ref h_s, .ref h_images, .int kept, .ref h_tape, .int typed, .ref h_draft, .int atv, .ref h_items, .ref h_moved, .ref h_sizes, .ref h_lanes, .ref h_less, .ref h_aside, .ref h_order], ai G h_s 161 sv]) [0, 1] (by decide) rfl
          have hFc := va_free (wc := [oc h 9 [.ref h_s, .ref h_images, .int kept, .ref h_tape, .int typed, .ref h_draft, .int atv, .ref h_items, .ref h_moved, .ref h_sizes, .ref h_lanes, .ref h_less, .ref h_aside, .ref h_order], ai G h_s 161 sv]) hD hS hA [0, 1] rfl
          refine va_calli (va_runV (As := [.int x5, .int p2]) (rest := []) ⟨hx, hb, hml, hown, hts⟩ (mt_X9_placeOn l G h h_s h_images h_tape h_draft h_items h_moved h_sizes h_lanes h_less h_aside h_order H.size kept typed atv sv x5 p2 _ hw) (cwV 2 hts (lw_V q1038 q1040 qs47 q65 q1041) rfl rfl rfl (by decide +kernel) ⟨Nat.le_of_ble_eq_true rfl, Nat.le_of_ble_eq_true rfl⟩) ⟨fun a U g mk q => by obtain ⟨q0, q1, qP, qK, qD⟩ := q; exact ⟨q0, q1, qP, qK.call, qD⟩, va_recv hK.1 hP (ci := 9) (q0 := 0) rfl rfl, fun U hU hW => ⟨rfl, by rw [hU], by rw [hU]; exact hPc, hK.warm hW, hDc.weaken (fun _ _ _ _ => trivial)⟩⟩ rfl rfl hl.1 rfl (lv_room (Nat.le_of_ble_eq_true rfl)) dX9_isOrder_36 ⟨Nat.le_of_ble_eq_true rfl, Nat.le_of_ble_eq_true rfl⟩) hS (fun q _ h => hFc q h) hFc (fun r_6 _ t H1 locs ht hvm hw hB hz1 hk1 hS => ?_)
          obtain ⟨hP1, hD1⟩ := hB
          rw [ht] at hP1
          obtain ⟨hP, hD⟩ := va_join (wr := []) (w1 := [oc h 9 [.ref h_s, .ref h_images, .int kept, .ref h_tape, .int typed, .ref h_draft, .int atv, .ref h_items, .ref h_moved, .ref h_sizes, .ref h_lanes, .ref h_less, .ref h_aside, .ref h_order], ai G h_s 161 sv]) hP hD [0, 1] [] rfl rfl (by decide) (by decide) hk1 hFc hP1 hD1
          clear hPc hDc hFc hP1 hD1 hz1 hk1 hvm
          generalize H1 = H at hP hS ⊢
          have hP : va_P G.1 gCl [oc h 9 [.ref h_s, .ref h_images, .int kept, .ref h_tape, .int typed, .ref h_draft, .int atv, .ref h_items, .ref h_moved, .ref h_sizes, .ref h_lanes, .ref h_less, .ref h_aside, .ref h_order], ai G h_s 161 sv] H := hP
          have hD : va_D A [oc h 9 [.ref h_s, .ref h_images, .int kept, .ref h_tape, .int typed, .ref h_draft, .int atv, .ref h_items, .ref h_moved, .ref h_sizes, .ref h_lanes, .ref h_less, .ref h_aside, .ref h_order], ai G h_s 161 sv] := hD
          refine lv_iload hx hb dX9_isOrder_39 (lv_at hl 4 rfl) ?_
          refine lv_icmp_le (tgt := 48) hx hb dX9_isOrder_41 (by decide) (fun c_7 => ?_) (fun c_7 => ?_)
          · replace hw := hw.1 c_7
            refine lv_iconst (v := (0 : Int32)) hx hb dX9_isOrder_48 (by decide) ?_
            refine lv_istore_n (lv' := [(3, .int (0 : Int32)), (0, .ref h), (1, .int p1), (2, .int p2), (4, .int x4), (5, .int x5)]) hx hb dX9_isOrder_49 rfl hl (by decide) rfl (fun ls hl => ?_)
            refine lv_aload_n hx hb dX9_isOrder_50 rfl (lv_at hl 1 rfl) ?_
            refine lv_iload hx hb dX9_isOrder_51 (lv_at hl 5 rfl) ?_
            refine lv_iload_n hx hb dX9_isOrder_53 rfl (lv_at hl 3 rfl) ?_
            have hPc := hP.sub (ws' := [oc h 9 [.ref h_s, .ref h_images, .int kept, .ref h_tape, .int typed, .ref h_draft, .int atv, .ref h_items, .ref h_moved, .ref h_sizes, .ref h_lanes, .ref h_less, .ref h_aside, .ref h_order], ai G h_s 161 sv]) [0, 1] rfl
            have hDc := hD.sub (ws' := [oc h 9 [.ref h_s, .ref h_images, .int kept, .ref h_tape, .int typed, .ref h_draft, .int atv, .ref h_items, .ref h_moved, .ref h_sizes, .ref h_lanes, .ref h_less, .ref h_aside, .ref h_order], ai G h_s 161 sv]) [0, 1] (by decide) rfl
            have hFc := va_free (wc := [oc h 9 [.ref h_s, .ref h_images, .int kept, .ref h_tape, .int typed, .ref h_draft, .int atv, .ref h_items, .ref h_moved, .ref h_sizes, .ref h_lanes, .ref h_less, .ref h_aside, .ref h_order], ai G h_s 161 sv]) hD hS hA [0, 1] rfl
            refine va_calli (va_runV (As := [.int x5, .int p2]) (rest := []) ⟨hx, hb, hml, hown, hts⟩ (mt_X9_placeOn l G h h_s h_images h_tape h_draft h_items h_moved h_sizes h_lanes h_less h_aside h_order H.size kept typed atv sv x5 p2 _ hw) (cwV 2 hts (lw_V q1038 q1040 qs47 q65 q1041) rfl rfl rfl (by decide +kernel) ⟨Nat.le_of_ble_eq_true rfl, Nat.le_of_ble_eq_true rfl⟩) ⟨fun a U g mk q => by obtain ⟨q0, q1, qP, qK, qD⟩ := q; exact ⟨q0, q1, qP, qK.call, qD⟩, va_recv hK.1 hP (ci := 9) (q0 := 0) rfl rfl, fun U hU hW => ⟨rfl, by rw [hU], by rw [hU]; exact hPc, hK.warm hW, hDc.weaken (fun _ _ _ _ => trivial)⟩⟩ rfl rfl hl.1 rfl (lv_room (Nat.le_of_ble_eq_true rfl)) dX9_isOrder_54 ⟨Nat.le_of_ble_eq_true rfl, Nat.le_of_ble_eq_true rfl⟩) hS (fun q _ h => hFc q h) hFc (fun r_8 _ t H1 locs ht hvm hw hB hz1 hk1 hS => ?_)
            obtain ⟨hP1, hD1⟩ := hB
            rw [ht] at hP1
            obtain ⟨hP, hD⟩ := va_join (wr := []) (w1 := [oc h 9 [.ref h_s, .ref h_images, .int kept, .ref h_tape, .int typed, .ref h_draft, .int atv, .ref h_items, .ref h_moved, .ref h_sizes, .ref h_lanes, .ref h_less, .ref h_aside, .ref h_order], ai G h_s 161 sv]) hP hD [0, 1] [] rfl rfl (by decide) (by decide) hk1 hFc hP1 hD1
            clear hPc hDc hFc hP1 hD1 hz1 hk1 hvm
            generalize H1 = H at hP hS ⊢
            have hP : va_P G.1 gCl [oc h 9 [.ref h_s, .ref h_images, .int kept, .ref h_tape, .int typed, .ref h_draft, .int atv, .ref h_items, .ref h_moved, .ref h_sizes, .ref h_lanes, .ref h_less, .ref h_aside, .ref h_order], ai G h_s 161 sv] H := hP
            have hD : va_D A [oc h 9 [.ref h_s, .ref h_images, .int kept, .ref h_tape, .int typed, .ref h_draft, .int atv, .ref h_items, .ref h_moved, .ref h_sizes, .ref h_lanes, .ref h_less, .ref h_aside, .ref h_order], ai G h_s 161 sv] := hD
            refine lv_istore (lv' := [(4, .int r_8), (3, .int (0 : Int32)), (0, .ref h), (1, .int p1), (2, .int p2), (5, .int x5)]) hx hb dX9_isOrder_57 hl (by decide) rfl (fun ls hl => ?_)
            refine lv_iinc (v := (x5 + (1 : Int32))) (lv' := [(5, .int (x5 + (1 : Int32))), (4, .int r_8), (3, .int (0 : Int32)), (0, .ref h), (1, .int p1), (2, .int p2)]) hx hb dX9_isOrder_59 hl (k := 5) rfl rfl (by decide) rfl (fun ls hl => ?_)
            refine lv_goto (tgt := 8) hx hb dX9_isOrder_62 (by decide) ?_
            exact ih (0 : Int32) r_8 (x5 + (1 : Int32)) H locs hP hD hS ls (lv_sub hl [3, 4, 5, 2, 1, 0] rfl) hw
          · replace hw := hw.2 c_7
            refine lv_iconst (v := (1 : Int32)) hx hb dX9_isOrder_44 (by decide) ?_
            refine lv_goto (tgt := 49) hx hb dX9_isOrder_45 (by decide) ?_
            refine lv_istore_n (lv' := [(3, .int (1 : Int32)), (0, .ref h), (1, .int p1), (2, .int p2), (4, .int x4), (5, .int x5)]) hx hb dX9_isOrder_49 rfl hl (by decide) rfl (fun ls hl => ?_)
            refine lv_aload_n hx hb dX9_isOrder_50 rfl (lv_at hl 1 rfl) ?_
            refine lv_iload hx hb dX9_isOrder_51 (lv_at hl 5 rfl) ?_
            refine lv_iload_n hx hb dX9_isOrder_53 rfl (lv_at hl 3 rfl) ?_
            have hPc := hP.sub (ws' := [oc h 9 [.ref h_s, .ref h_images, .int kept, .ref h_tape, .int typed, .ref h_draft, .int atv, .ref h_items, .ref h_moved, .ref h_sizes, .ref h_lanes, .ref h_less, .ref h_aside, .ref h_order], ai G h_s 161 sv]) [0, 1] rfl
            have hDc := hD.sub (ws' := [oc h 9 [.ref h_s, .ref h_images, .int kept, .ref h_tape, .int typed, .ref h_draft, .int atv, .ref h_items, .ref h_moved, .ref h_sizes, .ref h_lanes, .ref h_less, .ref h_aside, .ref h_order], ai G h_s 161 sv]) [0, 1] (by decide) rfl
            have hFc := va_free (wc := [oc h 9 [.ref h_s, .ref h_images, .int kept, .ref h_tape, .int typed, .ref h_draft, .int atv, .ref h_items, .ref h_moved, .ref h_sizes, .ref h_lanes, .ref h_less, .ref h_aside, .ref h_order], ai G h_s 161 sv]) hD hS hA [0, 1] rfl
            refine va_calli (va_runV (As := [.int x5, .int p2]) (rest := []) ⟨hx, hb, hml, hown, hts⟩ (mt_X9_placeOn l G h h_s h_images h_tape h_draft h_items h_moved h_sizes h_lanes h_less h_aside h_order H.size kept typed atv sv x5 p2 _ hw) (cwV 2 hts (lw_V q1038 q1040 qs47 q65 q1041) rfl rfl rfl (by decide +kernel) ⟨Nat.le_of_ble_eq_true rfl, Nat.le_of_ble_eq_true rfl⟩) ⟨fun a U g mk q => by obtain ⟨q0, q1, qP, qK, qD⟩ := q; exact ⟨q0, q1, qP, qK.call, qD⟩, va_recv hK.1 hP (ci := 9) (q0 := 0) rfl rfl, fun U hU hW => ⟨rfl, by rw [hU], by rw [hU]; exact hPc, hK.warm hW, hDc.weaken (fun _ _ _ _ => trivial)⟩⟩ rfl rfl hl.1 rfl (lv_room (Nat.le_of_ble_eq_true rfl)) dX9_isOrder_54 ⟨Nat.le_of_ble_eq_true rfl, Nat.le_of_ble_eq_true rfl⟩) hS (fun q _ h => hFc q h) hFc (fun r_9 _ t H1 locs ht hvm hw hB hz1 hk1 hS => ?_)
            obtain ⟨hP1, hD1⟩ := hB
            rw [ht] at hP1
            obtain ⟨hP, hD⟩ := va_join (wr := []) (w1 := [oc h 9 [.ref h_s, .ref h_images, .int kept, .ref h_tape, .int typed, .ref h_draft, .int atv, .ref h_items, .ref h_moved, .ref h_sizes, .ref h_lanes, .ref h_less, .ref h_aside, .ref h_order], ai G h_s 161 sv]) hP hD [0, 1] [] rfl rfl (by decide) (by decide) hk1 hFc hP1 hD1
            clear hPc hDc hFc hP1 hD1 hz1 hk1 hvm
            generalize H1 = H at hP hS ⊢
            have hP : va_P G.1 gCl [oc h 9 [.ref h_s, .ref h_images, .int kept, .ref h_tape, .int typed, .ref h_draft, .int atv, .ref h_items, .ref h_moved, .ref h_sizes, .ref h_lanes, .ref h_less, .ref h_aside, .ref h_order], ai G h_s 161 sv] H := hP
            have hD : va_D A [oc h 9 [.ref h_s, .ref h_images, .int kept, .ref h_tape, .int typed, .ref h_draft, .int atv, .ref h_items, .ref h_moved, .ref h_sizes, .ref h_lanes, .ref h_less, .ref h_aside, .ref h_order], ai G h_s 161 sv] := hD
            refine lv_istore (lv' := [(4, .int r_9), (3, .int (1 : Int32)), (0, .ref h), (1, .int p1), (2, .int p2), (5, .int x5)]) hx hb dX9_isOrder_57 hl (by decide) rfl (fun ls hl => ?_)
            refine lv_iinc (v := (x5 + (1 : Int32))) (lv' := [(5, .int (x5 + (1 : Int32))), (4, .int r_9), (3, .int (1 : Int32)), (0, .ref h), (1, .int p1), (2, .int p2)]) hx hb dX9_isOrder_59 hl (k := 5) rfl rfl (by decide) rfl (fun ls hl => ?_)
            refine lv_goto (tgt := 8) hx hb dX9_isOrder_62 (by decide) ?_
            exact ih (1 : Int32) r_9 (x5 + (1 : Int32)) H locs hP hD hS ls (lv_sub hl [3, 4, 5, 2, 1, 0] rfl) hw
def wp_X9_isOrder (sv : Nat → Int32) (p1 : Int32) (p2 : Int32) (Q : Int32 → Prop) : Prop :=
  (∃ j_ : Nat, wp_X9_isOrder_8 sv p1 p2 Q  j_ (1 : Int32) (-1 : Int32) (0 : Int32))
set_option maxHeartbeats 4000000 in
theorem mt_X9_isOrder (l : Launch) (G : GT) (h h_s h_images h_tape h_draft h_items h_moved h_sizes h_lanes h_less h_aside h_order : Nat) (sz : Nat) (kept : Int32) (typed : Int32) (atv : Int32) (sv : Nat → Int32) (p1 : Int32) (p2 : Int32) (Q : Int32 → Prop) (hw : wp_X9_isOrder sv p1 p2 Q) : Met l yX9_isOrder (ws_ yX9_isOrder cX9_isOrder 6 (some .boolean)) ({ frames := 1, cells := 0, slots := 0, locals := 22 } : Room) (va_Pc [.ref h, .int p1, .int p2] (fun U => U.heap.size = sz ∧ va_P G.1 gCl [oc h 9 [.ref h_s, .ref h_images, .int kept, .ref h_tape, .int typed, .ref h_draft, .int atv, .ref h_items, .ref h_moved, .ref h_sizes, .ref h_lanes, .ref h_less, .ref h_aside, .ref h_order], ai G h_s 161 sv] U.heap ∧ gK G U ∧ va_D (fun _ => True) [oc h 9 [.ref h_s, .ref h_images, .int kept, .ref h_tape, .int typed, .ref h_draft, .int atv, .ref h_items, .ref h_moved, .ref h_sizes, .ref h_lanes, .ref h_less, .ref h_aside, .ref h_order], ai G h_s 161 sv])) ((fun A => (va_Qi (fun (r : Int32) (u : Unit) => Q r ) (fun u t => va_P G.1 gCl [oc h 9 [.ref h_s, .ref h_images, .int kept, .ref h_tape, .int typed, .ref h_draft, .int atv, .ref h_items, .ref h_moved, .ref h_sizes, .ref h_lanes, .ref h_less, .ref h_aside, .ref h_order], ai G h_s 161 sv] t.heap ∧ va_D A [oc h 9 [.ref h_s, .ref h_images, .int kept, .ref h_tape, .int typed, .ref h_draft, .int atv, .ref h_items, .ref h_moved, .ref h_sizes, .ref h_lanes, .ref h_less, .ref h_aside, .ref h_order], ai G h_s 161 sv]) A)) (va_A [oc h 9 [.ref h_s, .ref h_images, .int kept, .ref h_tape, .int typed, .ref h_draft, .int atv, .ref h_items, .ref h_moved, .ref h_sizes, .ref h_lanes, .ref h_less, .ref h_aside, .ref h_order], ai G h_s 161 sv] sz)) 0 0 (va_A [oc h 9 [.ref h_s, .ref h_images, .int kept, .ref h_tape, .int typed, .ref h_draft, .int atv, .ref h_items, .ref h_moved, .ref h_sizes, .ref h_lanes, .ref h_less, .ref h_aside, .ref h_order], ai G h_s 161 sv] sz) := by
  refine Met.ofW (cc := cX9_isOrder) (maxL := 6) (ret := (some .boolean)) (by decide) rfl ?_
  intro p e s m args below meth c s₁ B hml hv
  obtain ⟨rfl, hsz, hP, hK, hD0⟩ := hv
  have hx := B.exec
  have hb := B.bytes
  have hr := B.returns
  have hts := atoms_spec (ws := (ws_ yX9_isOrder cX9_isOrder 6 (some .boolean))) B.pre
  have hts : ∀ w ∈ lw_all, w.before _ s = true := fun w h => hts w (List.mem_cons_of_mem _ h)
  have hown : s.vm.findClass RX9 = some m.cls := findClass_of_methodNamed B.named
  have hlocks := B.notSynchronized
  subst hsz
  have hD := hD0.self (sz := s.heap.size)
  generalize hAe : va_A [oc h 9 [.ref h_s, .ref h_images, .int kept, .ref h_tape, .int typed, .ref h_draft, .int atv, .ref h_items, .ref h_moved, .ref h_sizes, .ref h_lanes, .ref h_less, .ref h_aside, .ref h_order], ai G h_s 161 sv] s.heap.size = A at hD ⊢
  have hA : ∀ q : Nat, s.heap.size ≤ q → A q := fun q h => by rw [← hAe]; exact Or.inr h
  have hS : va_S A s.heap s.heap [] := va_S.rf
  have C : Cx p s m meth c cX9_isOrder 6 (some .boolean) RX9 ([.ref h, .int p1, .int p2] : List Value).toArray G A := ⟨hx, hb, hr, hlocks, hml, hown, hts, hK, hA⟩
  have hl := lv_entry ([.ref h, .int p1, .int p2]) (n := 6) (Nat.le_of_ble_eq_true rfl)
  rw [lg_entry_eq]
  generalize (lg_sl ([.ref h, .int p1, .int p2]) ++ List.replicate (6 - (lg_sl ([.ref h, .int p1, .int p2])).length) Slot.unset).toArray = ls at hl ⊢
  have hl : lv_has ls 6 [(0, .ref h), (1, .int p1), (2, .int p2)] := hl
  unfold wp_X9_isOrder at hw
  refine lv_iconst (v := (1 : Int32)) hx hb dX9_isOrder_0 (by decide) ?_
  refine lv_istore_n (lv' := [(3, .int (1 : Int32)), (0, .ref h), (1, .int p1), (2, .int p2)]) hx hb dX9_isOrder_1 rfl hl (by decide) rfl (fun ls hl => ?_)
  refine lv_iconst (v := (-1 : Int32)) hx hb dX9_isOrder_2 (by decide) ?_
  refine lv_istore (lv' := [(4, .int (-1 : Int32)), (3, .int (1 : Int32)), (0, .ref h), (1, .int p1), (2, .int p2)]) hx hb dX9_isOrder_3 hl (by decide) rfl (fun ls hl => ?_)
  refine lv_iconst (v := (0 : Int32)) hx hb dX9_isOrder_5 (by decide) ?_
  refine lv_istore (lv' := [(5, .int (0 : Int32)), (4, .int (-1 : Int32)), (3, .int (1 : Int32)), (0, .ref h), (1, .int p1), (2, .int p2)]) hx hb dX9_isOrder_6 hl (by decide) rfl (fun ls hl => ?_)
  obtain ⟨j_, hw⟩ := hw
  exact wk_X9_isOrder_8 h h_s h_images h_tape h_draft h_items h_moved h_sizes h_lanes h_less h_aside h_order kept typed atv sv p1 p2  Q  C  j_ (1 : Int32) (-1 : Int32) (0 : Int32) s.heap [] hP hD hS ls (lv_sub hl [3, 4, 5, 2, 1, 0] rfl) hw
/-! BattleBenchModel.stay(II)I -/
def wp_X9_stay_112 (sv : Nat → Int32) (p1 : Int32) (p2 : Int32) (Q : Int32 → Prop)  : Nat → Int32 → Int32 → Int32 → Prop
  | 0, _, _, _ => False
  | n + 1, x3, x4, x5 =>
    ((((sv 1) ≤ x5) → ((¬ (p2 = 0) → Q x4) ∧ ((p2 = 0) → wp_X9_ones  x3 (fun r_3 => Q r_3)))) ∧ (¬ ((sv 1) ≤ x5) → wp_X9_has  x3 x5 (fun r_4 => (((r_4 = 0) → (∀ v_6 : Int32, v_6 = (x4 ||| (0 : Int32)) → wp_X9_stay_112 sv p1 p2 Q  n x3 v_6 (x5 + (1 : Int32)))) ∧ (¬ (r_4 = 0) → (vp_in ((10 : Int32) + x5) 161 ∧ (∀ v_8 : Int32, v_8 = (x4 ||| ((1 : Int32) <<< ((sv (((10 : Int32) + x5)).toNatClampNeg) &&& 31))) → wp_X9_stay_112 sv p1 p2 Q  n x3 v_8 (x5 + (1 : Int32)))))))))
set_option maxHeartbeats 4000000 in
theorem wk_X9_stay_112 {p : Program} {l : Launch} {e : Env} {s : State} {m : MethodId} {below : List Frame} {meth : Method} {c : Code} {args : Array Value} {G : GT} {A : Nat → Prop} (h h_s h_images h_tape h_draft h_items h_moved h_sizes h_lanes h_less h_aside h_order : Nat) (kept : Int32) (typed : Int32) (atv : Int32) (sv : Nat → Int32) (p1 : Int32) (p2 : Int32) (Q : Int32 → Prop)  (C : Cx p s m meth c cX9_stay 6 (some .int) RX9 args G A)  :
    ∀ (n : Nat), ∀  (x3 : Int32) (x4 : Int32) (x5 : Int32) (H : Heap) (locs : List Loc), va_P G.1 gCl [oc h 9 [.ref h_s, .ref h_images, .int kept, .ref h_tape, .int typed, .ref h_draft, .int atv, .ref h_items, .ref h_moved, .ref h_sizes, .ref h_lanes, .ref h_less, .ref h_aside, .ref h_order], ai G h_s 161 sv] H → va_D A [oc h 9 [.ref h_s, .ref h_images, .int kept, .ref h_tape, .int typed, .ref h_draft, .int atv, .ref h_items, .ref h_moved, .ref h_sizes, .ref h_lanes, .ref h_less, .ref h_aside, .ref h_order], ai G h_s 161 sv] → va_S A s.heap H locs → ∀ (ls : Array Slot), lv_has ls 6 [(0, .ref h), (2, .int p2), (3, .int x3), (4, .int x4), (5, .int x5)] → wp_X9_stay_112 sv p1 p2 Q  n x3 x4 x5 → W p l e ({ frames := 2, cells := 0, slots := 0, locals := 47 } : Room) s m args below meth c H locs 0 0 (MQ below (va_Qi (fun (r : Int32) (u : Unit) => Q r ) (fun u t => va_P G.1 gCl [oc h 9 [.ref h_s, .ref h_images, .int kept, .ref h_tape, .int typed, .ref h_draft, .int atv, .ref h_items, .ref h_moved, .ref h_sizes, .ref h_lanes, .ref h_less, .ref h_aside, .ref h_order], ai G h_s 161 sv] t.heap ∧ va_D A [oc h 9 [.ref h_s, .ref h_images, .int kept, .ref h_tape, .int typed, .ref h_draft, .int atv, .ref h_items, .ref h_moved, .ref h_sizes, .ref h_lanes, .ref h_less, .ref h_aside, .ref h_order], ai G h_s 161 sv]) A) args s 0 0 A) (F0 m 112 ls []) := by
  have C9 := C
  obtain ⟨hx, hb, hr, hlocks, hml, hown, hts, hK, hA⟩ := C9
  intro n
  induction n with
  | zero => intro x3 x4 x5 H locs hP hD hS ls hl hw; exact False.elim hw
  | succ n ih =>
    intro x3 x4 x5 H locs hP hD hS ls hl hw
    unfold wp_X9_stay_112 at hw
    refine lv_iload hx hb dX9_stay_112 (lv_at hl 4 rfl) ?_
    refine lv_aload_n hx hb dX9_stay_114 rfl (lv_at hl 0 rfl) ?_
    refine va_get (D := G.1) (ci := 9) (v := .ref h_s) (C := RX9) (T := TX9) (N := 14) hx hb hts in_X9 hown hK.1 hP 0 rfl rfl 0 (by decide) (hts _ q817) (fun _ h9 => h9) rfl dX9_stay_115 ?_
    refine lv_iconst (v := (1 : Int32)) hx hb dX9_stay_118 (by decide) ?_
    refine z_iald hx hb hK.1 hP 1 0 rfl rfl (vin_l (by decide +kernel)) dX9_stay_119 (k := 1) rfl ?_
    refine lv_icmp_ge (tgt := 159) hx hb dX9_stay_120 (by decide) (fun c_1 => ?_) (fun c_1 => ?_)
    · replace hw := hw.1 c_1
      refine lv_iload_n hx hb dX9_stay_159 rfl (lv_at hl 1 rfl) ?_
      refine lv_if_ne (tgt := 170) hx hb dX9_stay_160 (by decide) (fun c_2 => ?_) (fun c_2 => ?_)
      · replace hw := hw.1 c_2
        refine lv_iload hx hb dX9_stay_170 (lv_at hl 3 rfl) ?_
        have hP9 := hP
        have hD9 := hD
        exact W.iret (v := x4) hx hb hr (fun t ht hW => ⟨⟨x4, (), rfl, hw, by rw [ht]; exact hP9, hD9⟩, hS.F ht⟩) hS.2.2 dX9_stay_172
      · replace hw := hw.2 c_2
        refine lv_iload_n hx hb dX9_stay_163 rfl (lv_at hl 2 rfl) ?_
        have hPc := hP.sub (ws' := []) [] rfl
        have hDc := hD.sub (ws' := []) [] (by decide) rfl
        have hFc := va_free (wc := []) hD hS hA [] rfl
        refine va_calli (va_runS (As := [.int x3]) (rest := []) ⟨hx, hb, hml, hown, hts⟩ (mt_X9_ones l G  H.size  x3 _ hw) (va_cwS 1 hts (lw_S q907 q908 q65 q909) rfl rfl rfl (by decide +kernel) ⟨Nat.le_of_ble_eq_true rfl, Nat.le_of_ble_eq_true rfl⟩) ⟨fun a U g mk q => by obtain ⟨q0, q1, qP, qK, qD⟩ := q; exact ⟨q0, q1, qP, qK.call, qD⟩, fun U hU hW => ⟨rfl, by rw [hU], by rw [hU]; exact hPc, hK.warm hW, hDc.weaken (fun _ _ _ _ => trivial)⟩⟩ rfl rfl hl.1 rfl (lv_room (Nat.le_of_ble_eq_true rfl)) dX9_stay_164 ⟨Nat.le_of_ble_eq_true rfl, Nat.le_of_ble_eq_true rfl⟩) hS (fun q _ h => hFc q h) hFc (fun r_3 _ t H1 locs ht hvm hw hB hz1 hk1 hS => ?_)
        obtain ⟨hP1, hD1⟩ := hB
        rw [ht] at hP1
        obtain ⟨hP, hD⟩ := va_join (wr := [oc h 9 [.ref h_s, .ref h_images, .int kept, .ref h_tape, .int typed, .ref h_draft, .int atv, .ref h_items, .ref h_moved, .ref h_sizes, .ref h_lanes, .ref h_less, .ref h_aside, .ref h_order], ai G h_s 161 sv]) (w1 := []) hP hD [] [0, 1] rfl rfl (by decide) (by decide) hk1 hFc hP1 hD1
        clear hPc hDc hFc hP1 hD1 hz1 hk1 hvm
        generalize H1 = H at hP hS ⊢
        have hP : va_P G.1 gCl [oc h 9 [.ref h_s, .ref h_images, .int kept, .ref h_tape, .int typed, .ref h_draft, .int atv, .ref h_items, .ref h_moved, .ref h_sizes, .ref h_lanes, .ref h_less, .ref h_aside, .ref h_order], ai G h_s 161 sv] H := hP
        have hD : va_D A [oc h 9 [.ref h_s, .ref h_images, .int kept, .ref h_tape, .int typed, .ref h_draft, .int atv, .ref h_items, .ref h_moved, .ref h_sizes, .ref h_lanes, .ref h_less, .ref h_aside, .ref h_order], ai G h_s 161 sv] := hD
        refine lv_goto (tgt := 172) hx hb dX9_stay_167 (by decide) ?_
        have hP9 := hP
        have hD9 := hD
        exact W.iret (v := r_3) hx hb hr (fun t ht hW => ⟨⟨r_3, (), rfl, hw, by rw [ht]; exact hP9, hD9⟩, hS.F ht⟩) hS.2.2 dX9_stay_172
    · replace hw := hw.2 c_1
      refine lv_iload hx hb dX9_stay_123 (lv_at hl 3 rfl) ?_
      refine lv_iload_n hx hb dX9_stay_125 rfl (lv_at hl 2 rfl) ?_
      refine lv_iload hx hb dX9_stay_126 (lv_at hl 4 rfl) ?_
      have hPc := hP.sub (ws' := []) [] rfl
      have hDc := hD.sub (ws' := []) [] (by decide) rfl
      have hFc := va_free (wc := []) hD hS hA [] rfl
      refine va_calli (va_runS (As := [.int x3, .int x5]) (rest := [.int x4]) ⟨hx, hb, hml, hown, hts⟩ (mt_X9_has l G  H.size  x3 x5 _ hw) (va_cwS 2 hts (lw_S q976 q977 q65 q978) rfl rfl rfl (by decide +kernel) ⟨Nat.le_of_ble_eq_true rfl, Nat.le_of_ble_eq_true rfl⟩) ⟨fun a U g mk q => by obtain ⟨q0, q1, qP, qK, qD⟩ := q; exact ⟨q0, q1, qP, qK.call, qD⟩, fun U hU hW => ⟨rfl, by rw [hU], by rw [hU]; exact hPc, hK.warm hW, hDc.weaken (fun _ _ _ _ => trivial)⟩⟩ rfl rfl hl.1 rfl (lv_room (Nat.le_of_ble_eq_true rfl)) dX9_stay_128 ⟨Nat.le_of_ble_eq_true rfl, Nat.le_of_ble_eq_true rfl⟩) hS (fun q _ h => hFc q h) hFc (fun r_4 _ t H1 locs ht hvm hw hB hz1 hk1 hS => ?_)
      obtain ⟨hP1, hD1⟩ := hB
      rw [ht] at hP1
      obtain ⟨hP, hD⟩ := va_join (wr := [oc h 9 [.ref h_s, .ref h_images, .int kept, .ref h_tape, .int typed, .ref h_draft, .int atv, .ref h_items, .ref h_moved, .ref h_sizes, .ref h_lanes, .ref h_less, .ref h_aside, .ref h_order], ai G h_s 161 sv]) (w1 := []) hP hD [] [0, 1] rfl rfl (by decide) (by decide) hk1 hFc hP1 hD1
      clear hPc hDc hFc hP1 hD1 hz1 hk1 hvm
      generalize H1 = H at hP hS ⊢
      have hP : va_P G.1 gCl [oc h 9 [.ref h_s, .ref h_images, .int kept, .ref h_tape, .int typed, .ref h_draft, .int atv, .ref h_items, .ref h_moved, .ref h_sizes, .ref h_lanes, .ref h_less, .ref h_aside, .ref h_order], ai G h_s 161 sv] H := hP
      have hD : va_D A [oc h 9 [.ref h_s, .ref h_images, .int kept, .ref h_tape, .int typed, .ref h_draft, .int atv, .ref h_items, .ref h_moved, .ref h_sizes, .ref h_lanes, .ref h_less, .ref h_aside, .ref h_order], ai G h_s 161 sv] := hD
      refine lv_if_eq (tgt := 149) hx hb dX9_stay_131 (by decide) (fun c_5 => ?_) (fun c_5 => ?_)
      · replace hw := hw.1 c_5
        refine lv_iconst (v := (0 : Int32)) hx hb dX9_stay_149 (by decide) ?_
        refine lv_ior hx hb dX9_stay_150 ?_
        refine lv_topi (fun v_6 ev_6 => ?_)
        replace hw := hw v_6 ev_6
        refine lv_istore (lv' := [(4, .int v_6), (0, .ref h), (2, .int p2), (3, .int x3), (5, .int x5)]) hx hb dX9_stay_151 hl (by decide) rfl (fun ls hl => ?_)
        refine lv_iinc (v := (x5 + (1 : Int32))) (lv' := [(5, .int (x5 + (1 : Int32))), (4, .int v_6), (0, .ref h), (2, .int p2), (3, .int x3)]) hx hb dX9_stay_153 hl (k := 4) rfl rfl (by decide) rfl (fun ls hl => ?_)
        refine lv_goto (tgt := 112) hx hb dX9_stay_156 (by decide) ?_
        exact ih x3 v_6 (x5 + (1 : Int32)) H locs hP hD hS ls (lv_sub hl [2, 3, 4, 1, 0] rfl) hw
      · replace hw := hw.2 c_5
        refine lv_iconst (v := (1 : Int32)) hx hb dX9_stay_134 (by decide) ?_
        refine lv_aload_n hx hb dX9_stay_135 rfl (lv_at hl 0 rfl) ?_
        refine va_get (D := G.1) (ci := 9) (v := .ref h_s) (C := RX9) (T := TX9) (N := 14) hx hb hts in_X9 hown hK.1 hP 0 rfl rfl 0 (by decide) (hts _ q817) (fun _ h9 => h9) rfl dX9_stay_136 ?_
        refine lv_bipush (v := (10 : Int32)) hx hb dX9_stay_139 (by decide) ?_
        refine lv_iload hx hb dX9_stay_141 (lv_at hl 4 rfl) ?_
        refine lv_iadd hx hb dX9_stay_143 ?_
        obtain ⟨i_7, hw⟩ := hw
        refine z_iald hx hb hK.1 hP 1 0 rfl rfl i_7 dX9_stay_144 (k := (((10 : Int32) + x5)).toNatClampNeg) rfl ?_
        refine lv_ishl hx hb dX9_stay_145 ?_
        refine lv_goto (tgt := 150) hx hb dX9_stay_146 (by decide) ?_
        refine lv_ior hx hb dX9_stay_150 ?_
        refine lv_topi (fun v_8 ev_8 => ?_)
        replace hw := hw v_8 ev_8
        refine lv_istore (lv' := [(4, .int v_8), (0, .ref h), (2, .int p2), (3, .int x3), (5, .int x5)]) hx hb dX9_stay_151 hl (by decide) rfl (fun ls hl => ?_)
        refine lv_iinc (v := (x5 + (1 : Int32))) (lv' := [(5, .int (x5 + (1 : Int32))), (4, .int v_8), (0, .ref h), (2, .int p2), (3, .int x3)]) hx hb dX9_stay_153 hl (k := 4) rfl rfl (by decide) rfl (fun ls hl => ?_)
        refine lv_goto (tgt := 112) hx hb dX9_stay_156 (by decide) ?_
        exact ih x3 v_8 (x5 + (1 : Int32)) H locs hP hD hS ls (lv_sub hl [2, 3, 4, 1, 0] rfl) hw
def wp_X9_stay_76 (sv : Nat → Int32) (p1 : Int32) (p2 : Int32) (Q : Int32 → Prop) (K25 : Int32 → Int32 → Prop) (x3 : Int32) (x4 : Int32) (y0 : Int32) : Prop :=
  (((y0 = 0) → K25 x3 (x4 + (1 : Int32))) ∧ (¬ (y0 = 0) → wp_X9_isOrder sv x4 p1 (fun r_2 => (((r_2 = 0) → K25 x3 (x4 + (1 : Int32))) ∧ (¬ (r_2 = 0) → K25 x4 (x4 + (1 : Int32)))))))
set_option maxHeartbeats 4000000 in
theorem wk_X9_stay_76 {p : Program} {l : Launch} {e : Env} {s : State} {m : MethodId} {below : List Frame} {meth : Method} {c : Code} {args : Array Value} {G : GT} {A : Nat → Prop} (h h_s h_images h_tape h_draft h_items h_moved h_sizes h_lanes h_less h_aside h_order : Nat) (kept : Int32) (typed : Int32) (atv : Int32) (sv : Nat → Int32) (p1 : Int32) (p2 : Int32) (Q : Int32 → Prop) (K25 : Int32 → Int32 → Prop) (C : Cx p s m meth c cX9_stay 6 (some .int) RX9 args G A) (hK25 : ∀  (x3 : Int32) (x4 : Int32) (H : Heap) (locs : List Loc), va_P G.1 gCl [oc h 9 [.ref h_s, .ref h_images, .int kept, .ref h_tape, .int typed, .ref h_draft, .int atv, .ref h_items, .ref h_moved, .ref h_sizes, .ref h_lanes, .ref h_less, .ref h_aside, .ref h_order], ai G h_s 161 sv] H → va_D A [oc h 9 [.ref h_s, .ref h_images, .int kept, .ref h_tape, .int typed, .ref h_draft, .int atv, .ref h_items, .ref h_moved, .ref h_sizes, .ref h_lanes, .ref h_less, .ref h_aside, .ref h_order], ai G h_s 161 sv] → va_S A s.heap H locs → ∀ (ls : Array Slot), lv_has ls 6 [(0, .ref h), (1, .int p1), (2, .int p2), (3, .int x3), (4, .int x4)] → K25 x3 x4 → W p l e ({ frames := 2, cells := 0, slots := 0, locals := 47 } : Room) s m args below meth c H locs 0 0 (MQ below (va_Qi (fun (r : Int32) (u : Unit) => Q r ) (fun u t => va_P G.1 gCl [oc h 9 [.ref h_s, .ref h_images, .int kept, .ref h_tape, .int typed, .ref h_draft, .int atv, .ref h_items, .ref h_moved, .ref h_sizes, .ref h_lanes, .ref h_less, .ref h_aside, .ref h_order], ai G h_s 161 sv] t.heap ∧ va_D A [oc h 9 [.ref h_s, .ref h_images, .int kept, .ref h_tape, .int typed, .ref h_draft, .int atv, .ref h_items, .ref h_moved, .ref h_sizes, .ref h_lanes, .ref h_less, .ref h_aside, .ref h_order], ai G h_s 161 sv]) A) args s 0 0 A) (F0 m 25 ls [])) :
    ∀  (x3 : Int32) (x4 : Int32) (y0 : Int32) (H : Heap) (locs : List Loc), va_P G.1 gCl [oc h 9 [.ref h_s, .ref h_images, .int kept, .ref h_tape, .int typed, .ref h_draft, .int atv, .ref h_items, .ref h_moved, .ref h_sizes, .ref h_lanes, .ref h_less, .ref h_aside, .ref h_order], ai G h_s 161 sv] H → va_D A [oc h 9 [.ref h_s, .ref h_images, .int kept, .ref h_tape, .int typed, .ref h_draft, .int atv, .ref h_items, .ref h_moved, .ref h_sizes, .ref h_lanes, .ref h_less, .ref h_aside, .ref h_order], ai G h_s 161 sv] → va_S A s.heap H locs → ∀ (ls : Array Slot), lv_has ls 6 [(0, .ref h), (1, .int p1), (2, .int p2), (3, .int x3), (4, .int x4)] → wp_X9_stay_76 sv p1 p2 Q K25  x3 x4 y0 → W p l e ({ frames := 2, cells := 0, slots := 0, locals := 47 } : Room) s m args below meth c H locs 0 0 (MQ below (va_Qi (fun (r : Int32) (u : Unit) => Q r ) (fun u t => va_P G.1 gCl [oc h 9 [.ref h_s, .ref h_images, .int kept, .ref h_tape, .int typed, .ref h_draft, .int atv, .ref h_items, .ref h_moved, .ref h_sizes, .ref h_lanes, .ref h_less, .ref h_aside, .ref h_order], ai G h_s 161 sv] t.heap ∧ va_D A [oc h 9 [.ref h_s, .ref h_images, .int kept, .ref h_tape, .int typed, .ref h_draft, .int atv, .ref h_items, .ref h_moved, .ref h_sizes, .ref h_lanes, .ref h_less, .ref h_aside, .ref h_order], ai G h_s 161 sv]) A) args s 0 0 A) (F0 m 76 ls [.int y0]) := by
  have C9 := C
  obtain ⟨hx, hb, hr, hlocks, hml, hown, hts, hK, hA⟩ := C9
  intro x3 x4 y0 H locs hP hD hS ls hl hw
  unfold wp_X9_stay_76 at hw
  refine lv_istore (lv' := [(5, .int y0), (0, .ref h), (1, .int p1), (2, .int p2), (3, .int x3), (4, .int x4)]) hx hb dX9_stay_76 hl (by decide) rfl (fun ls hl => ?_)
  refine lv_iload hx hb dX9_stay_78 (lv_at hl 0 rfl) ?_
  refine lv_if_eq (tgt := 98) hx hb dX9_stay_80 (by decide) (fun c_1 => ?_) (fun c_1 => ?_)
  · replace hw := hw.1 c_1
    refine lv_iload_n hx hb dX9_stay_98 rfl (lv_at hl 4 rfl) ?_
    refine lv_istore_n (lv' := [(3, .int x3), (5, .int y0), (0, .ref h), (1, .int p1), (2, .int p2), (4, .int x4)]) hx hb dX9_stay_99 rfl hl (by decide) rfl (fun ls hl => ?_)
    refine lv_iinc (v := (x4 + (1 : Int32))) (lv' := [(4, .int (x4 + (1 : Int32))), (3, .int x3), (5, .int y0), (0, .ref h), (1, .int p1), (2, .int p2)]) hx hb dX9_stay_100 hl (k := 5) rfl rfl (by decide) rfl (fun ls hl => ?_)
    refine lv_goto (tgt := 25) hx hb dX9_stay_103 (by decide) ?_
    exact hK25 x3 (x4 + (1 : Int32)) H locs hP hD hS ls (lv_sub hl [3, 4, 5, 1, 0] rfl) hw
  · replace hw := hw.2 c_1
    refine lv_aload_n hx hb dX9_stay_83 rfl (lv_at hl 1 rfl) ?_
    refine lv_iload hx hb dX9_stay_84 (lv_at hl 5 rfl) ?_
    refine lv_iload_n hx hb dX9_stay_86 rfl (lv_at hl 2 rfl) ?_
    have hPc := hP.sub (ws' := [oc h 9 [.ref h_s, .ref h_images, .int kept, .ref h_tape, .int typed, .ref h_draft, .int atv, .ref h_items, .ref h_moved, .ref h_sizes, .ref h_lanes, .ref h_less, .ref h_aside, .ref h_order], ai G h_s 161 sv]) [0, 1] rfl
    have hDc := hD.sub (ws' := [oc h 9 [.ref h_s, .ref h_images, .int kept, .ref h_tape, .int typed, .ref h_draft, .int atv, .ref h_items, .ref h_moved, .ref h_sizes, .ref h_lanes, .ref h_less, .ref h_aside, .ref h_order], ai G h_s 161 sv]) [0, 1] (by decide) rfl
    have hFc := va_free (wc := [oc h 9 [.ref h_s, .ref h_images, .int kept, .ref h_tape, .int typed, .ref h_draft, .int atv, .ref h_items, .ref h_moved, .ref h_sizes, .ref h_lanes, .ref h_less, .ref h_aside, .ref h_order], ai G h_s 161 sv]) hD hS hA [0, 1] rfl
    refine va_calli (va_runV (As := [.int x4, .int p1]) (rest := []) ⟨hx, hb, hml, hown, hts⟩ (mt_X9_isOrder l G h h_s h_images h_tape h_draft h_items h_moved h_sizes h_lanes h_less h_aside h_order H.size kept typed atv sv x4 p1 _ hw) (cwV 2 hts (lw_V q1049 q1051 qs48 q65 q1052) rfl rfl rfl (by decide +kernel) ⟨Nat.le_of_ble_eq_true rfl, Nat.le_of_ble_eq_true rfl⟩) ⟨fun a U g mk q => by obtain ⟨q0, q1, qP, qK, qD⟩ := q; exact ⟨q0, q1, qP, qK.call, qD⟩, va_recv hK.1 hP (ci := 9) (q0 := 0) rfl rfl, fun U hU hW => ⟨rfl, by rw [hU], by rw [hU]; exact hPc, hK.warm hW, hDc.weaken (fun _ _ _ _ => trivial)⟩⟩ rfl rfl hl.1 rfl (lv_room (Nat.le_of_ble_eq_true rfl)) dX9_stay_87 ⟨Nat.le_of_ble_eq_true rfl, Nat.le_of_ble_eq_true rfl⟩) hS (fun q _ h => hFc q h) hFc (fun r_2 _ t H1 locs ht hvm hw hB hz1 hk1 hS => ?_)
    obtain ⟨hP1, hD1⟩ := hB
    rw [ht] at hP1
    obtain ⟨hP, hD⟩ := va_join (wr := []) (w1 := [oc h 9 [.ref h_s, .ref h_images, .int kept, .ref h_tape, .int typed, .ref h_draft, .int atv, .ref h_items, .ref h_moved, .ref h_sizes, .ref h_lanes, .ref h_less, .ref h_aside, .ref h_order], ai G h_s 161 sv]) hP hD [0, 1] [] rfl rfl (by decide) (by decide) hk1 hFc hP1 hD1
    clear hPc hDc hFc hP1 hD1 hz1 hk1 hvm
    generalize H1 = H at hP hS ⊢
    have hP : va_P G.1 gCl [oc h 9 [.ref h_s, .ref h_images, .int kept, .ref h_tape, .int typed, .ref h_draft, .int atv, .ref h_items, .ref h_moved, .ref h_sizes, .ref h_lanes, .ref h_less, .ref h_aside, .ref h_order], ai G h_s 161 sv] H := hP
    have hD : va_D A [oc h 9 [.ref h_s, .ref h_images, .int kept, .ref h_tape, .int typed, .ref h_draft, .int atv, .ref h_items, .ref h_moved, .ref h_sizes, .ref h_lanes, .ref h_less, .ref h_aside, .ref h_order], ai G h_s 161 sv] := hD
    refine lv_if_eq (tgt := 98) hx hb dX9_stay_90 (by decide) (fun c_3 => ?_) (fun c_3 => ?_)
    · replace hw := hw.1 c_3
      refine lv_iload_n hx hb dX9_stay_98 rfl (lv_at hl 4 rfl) ?_
      refine lv_istore_n (lv' := [(3, .int x3), (5, .int y0), (0, .ref h), (1, .int p1), (2, .int p2), (4, .int x4)]) hx hb dX9_stay_99 rfl hl (by decide) rfl (fun ls hl => ?_)
      refine lv_iinc (v := (x4 + (1 : Int32))) (lv' := [(4, .int (x4 + (1 : Int32))), (3, .int x3), (5, .int y0), (0, .ref h), (1, .int p1), (2, .int p2)]) hx hb dX9_stay_100 hl (k := 5) rfl rfl (by decide) rfl (fun ls hl => ?_)
      refine lv_goto (tgt := 25) hx hb dX9_stay_103 (by decide) ?_
      exact hK25 x3 (x4 + (1 : Int32)) H locs hP hD hS ls (lv_sub hl [3, 4, 5, 1, 0] rfl) hw
    · replace hw := hw.2 c_3
      refine lv_iload hx hb dX9_stay_93 (lv_at hl 5 rfl) ?_
      refine lv_goto (tgt := 99) hx hb dX9_stay_95 (by decide) ?_
      refine lv_istore_n (lv' := [(3, .int x4), (5, .int y0), (0, .ref h), (1, .int p1), (2, .int p2), (4, .int x4)]) hx hb dX9_stay_99 rfl hl (by decide) rfl (fun ls hl => ?_)
      refine lv_iinc (v := (x4 + (1 : Int32))) (lv' := [(4, .int (x4 + (1 : Int32))), (3, .int x4), (5, .int y0), (0, .ref h), (1, .int p1), (2, .int p2)]) hx hb dX9_stay_100 hl (k := 5) rfl rfl (by decide) rfl (fun ls hl => ?_)
      refine lv_goto (tgt := 25) hx hb dX9_stay_103 (by decide) ?_
      exact hK25 x4 (x4 + (1 : Int32)) H locs hP hD hS ls (lv_sub hl [3, 4, 5, 1, 0] rfl) hw
def wp_X9_stay_25 (sv : Nat → Int32) (p1 : Int32) (p2 : Int32) (Q : Int32 → Prop)  : Nat → Int32 → Int32 → Prop
  | 0, _, _ => False
  | n + 1, x3, x4 =>
    (((((1 : Int32) <<< ((sv 1) &&& 31)) ≤ x4) → (∃ j_ : Nat, wp_X9_stay_112 sv p1 p2 Q  j_ x3 (0 : Int32) (0 : Int32))) ∧ (¬ (((1 : Int32) <<< ((sv 1) &&& 31)) ≤ x4) → wp_X9_ones  x4 (fun r_2 => wp_X9_ones  x3 (fun r_3 => (((r_3 < r_2) → wp_X9_stay_76 sv p1 p2 Q (fun a0_ a1_ => wp_X9_stay_25 sv p1 p2 Q  n a0_ a1_) x3 x4 (1 : Int32)) ∧ (¬ (r_3 < r_2) → wp_X9_ones  x4 (fun r_5 => wp_X9_ones  x3 (fun r_6 => ((¬ (r_5 = r_6) → wp_X9_stay_76 sv p1 p2 Q (fun a0_ a1_ => wp_X9_stay_25 sv p1 p2 Q  n a0_ a1_) x3 x4 (0 : Int32)) ∧ ((r_5 = r_6) → wp_X9_isAhead  x4 x3 (fun r_8 => (((r_8 = 0) → wp_X9_stay_76 sv p1 p2 Q (fun a0_ a1_ => wp_X9_stay_25 sv p1 p2 Q  n a0_ a1_) x3 x4 (0 : Int32)) ∧ (¬ (r_8 = 0) → wp_X9_stay_76 sv p1 p2 Q (fun a0_ a1_ => wp_X9_stay_25 sv p1 p2 Q  n a0_ a1_) x3 x4 (1 : Int32))))))))))))))
set_option maxHeartbeats 4000000 in
theorem wk_X9_stay_25 {p : Program} {l : Launch} {e : Env} {s : State} {m : MethodId} {below : List Frame} {meth : Method} {c : Code} {args : Array Value} {G : GT} {A : Nat → Prop} (h h_s h_images h_tape h_draft h_items h_moved h_sizes h_lanes h_less h_aside h_order : Nat) (kept : Int32) (typed : Int32) (atv : Int32) (sv : Nat → Int32) (p1 : Int32) (p2 : Int32) (Q : Int32 → Prop)  (C : Cx p s m meth c cX9_stay 6 (some .int) RX9 args G A)  :
    ∀ (n : Nat), ∀  (x3 : Int32) (x4 : Int32) (H : Heap) (locs : List Loc), va_P G.1 gCl [oc h 9 [.ref h_s, .ref h_images, .int kept, .ref h_tape, .int typed, .ref h_draft, .int atv, .ref h_items, .ref h_moved, .ref h_sizes, .ref h_lanes, .ref h_less, .ref h_aside, .ref h_order], ai G h_s 161 sv] H → va_D A [oc h 9 [.ref h_s, .ref h_images, .int kept, .ref h_tape, .int typed, .ref h_draft, .int atv, .ref h_items, .ref h_moved, .ref h_sizes, .ref h_lanes, .ref h_less, .ref h_aside, .ref h_order], ai G h_s 161 sv] → va_S A s.heap H locs → ∀ (ls : Array Slot), lv_has ls 6 [(0, .ref h), (1, .int p1), (2, .int p2), (3, .int x3), (4, .int x4)] → wp_X9_stay_25 sv p1 p2 Q  n x3 x4 → W p l e ({ frames := 2, cells := 0, slots := 0, locals := 47 } : Room) s m args below meth c H locs 0 0 (MQ below (va_Qi (fun (r : Int32) (u : Unit) => Q r ) (fun u t => va_P G.1 gCl [oc h 9 [.ref h_s, .ref h_images, .int kept, .ref h_tape, .int typed, .ref h_draft, .int atv, .ref h_items, .ref h_moved, .ref h_sizes, .ref h_lanes, .ref h_less, .ref h_aside, .ref h_order], ai G h_s 161 sv] t.heap ∧ va_D A [oc h 9 [.ref h_s, .ref h_images, .int kept, .ref h_tape, .int typed, .ref h_draft, .int atv, .ref h_items, .ref h_moved, .ref h_sizes, .ref h_lanes, .ref h_less, .ref h_aside, .ref h_order], ai G h_s 161 sv]) A) args s 0 0 A) (F0 m 25 ls []) := by
  have C9 := C
  obtain ⟨hx, hb, hr, hlocks, hml, hown, hts, hK, hA⟩ := C9
  intro n
  induction n with
  | zero => intro x3 x4 H locs hP hD hS ls hl hw; exact False.elim hw
  | succ n ih =>
    intro x3 x4 H locs hP hD hS ls hl hw
    unfold wp_X9_stay_25 at hw
    refine lv_iload hx hb dX9_stay_25 (lv_at hl 4 rfl) ?_
    refine lv_iconst (v := (1 : Int32)) hx hb dX9_stay_27 (by decide) ?_
    refine lv_aload_n hx hb dX9_stay_28 rfl (lv_at hl 0 rfl) ?_
    refine va_get (D := G.1) (ci := 9) (v := .ref h_s) (C := RX9) (T := TX9) (N := 14) hx hb hts in_X9 hown hK.1 hP 0 rfl rfl 0 (by decide) (hts _ q817) (fun _ h9 => h9) rfl dX9_stay_29 ?_
    refine lv_iconst (v := (1 : Int32)) hx hb dX9_stay_32 (by decide) ?_
    refine z_iald hx hb hK.1 hP 1 0 rfl rfl (vin_l (by decide +kernel)) dX9_stay_33 (k := 1) rfl ?_
    refine lv_ishl hx hb dX9_stay_34 ?_
    refine lv_icmp_ge (tgt := 106) hx hb dX9_stay_35 (by decide) (fun c_1 => ?_) (fun c_1 => ?_)
    · replace hw := hw.1 c_1
      refine lv_iconst (v := (0 : Int32)) hx hb dX9_stay_106 (by decide) ?_
      refine lv_istore (lv' := [(4, .int (0 : Int32)), (0, .ref h), (1, .int p1), (2, .int p2), (3, .int x3)]) hx hb dX9_stay_107 hl (by decide) rfl (fun ls hl => ?_)
      refine lv_iconst (v := (0 : Int32)) hx hb dX9_stay_109 (by decide) ?_
      refine lv_istore (lv' := [(5, .int (0 : Int32)), (4, .int (0 : Int32)), (0, .ref h), (1, .int p1), (2, .int p2), (3, .int x3)]) hx hb dX9_stay_110 hl (by decide) rfl (fun ls hl => ?_)
      obtain ⟨j_, hw⟩ := hw
      exact wk_X9_stay_112 h h_s h_images h_tape h_draft h_items h_moved h_sizes h_lanes h_less h_aside h_order kept typed atv sv p1 p2  Q  C  j_ x3 (0 : Int32) (0 : Int32) H locs hP hD hS ls (lv_sub hl [2, 4, 5, 1, 0] rfl) hw
    · replace hw := hw.2 c_1
      refine lv_iload hx hb dX9_stay_38 (lv_at hl 4 rfl) ?_
      have hPc := hP.sub (ws' := []) [] rfl
      have hDc := hD.sub (ws' := []) [] (by decide) rfl
      have hFc := va_free (wc := []) hD hS hA [] rfl
      refine va_calli (va_runS (As := [.int x4]) (rest := []) ⟨hx, hb, hml, hown, hts⟩ (mt_X9_ones l G  H.size  x4 _ hw) (va_cwS 1 hts (lw_S q907 q908 q65 q909) rfl rfl rfl (by decide +kernel) ⟨Nat.le_of_ble_eq_true rfl, Nat.le_of_ble_eq_true rfl⟩) ⟨fun a U g mk q => by obtain ⟨q0, q1, qP, qK, qD⟩ := q; exact ⟨q0, q1, qP, qK.call, qD⟩, fun U hU hW => ⟨rfl, by rw [hU], by rw [hU]; exact hPc, hK.warm hW, hDc.weaken (fun _ _ _ _ => trivial)⟩⟩ rfl rfl hl.1 rfl (lv_room (Nat.le_of_ble_eq_true rfl)) dX9_stay_40 ⟨Nat.le_of_ble_eq_true rfl, Nat.le_of_ble_eq_true rfl⟩) hS (fun q _ h => hFc q h) hFc (fun r_2 _ t H1 locs ht hvm hw hB hz1 hk1 hS => ?_)
      obtain ⟨hP1, hD1⟩ := hB
      rw [ht] at hP1
      obtain ⟨hP, hD⟩ := va_join (wr := [oc h 9 [.ref h_s, .ref h_images, .int kept, .ref h_tape, .int typed, .ref h_draft, .int atv, .ref h_items, .ref h_moved, .ref h_sizes, .ref h_lanes, .ref h_less, .ref h_aside, .ref h_order], ai G h_s 161 sv]) (w1 := []) hP hD [] [0, 1] rfl rfl (by decide) (by decide) hk1 hFc hP1 hD1
      clear hPc hDc hFc hP1 hD1 hz1 hk1 hvm
      generalize H1 = H at hP hS ⊢
      have hP : va_P G.1 gCl [oc h 9 [.ref h_s, .ref h_images, .int kept, .ref h_tape, .int typed, .ref h_draft, .int atv, .ref h_items, .ref h_moved, .ref h_sizes, .ref h_lanes, .ref h_less, .ref h_aside, .ref h_order], ai G h_s 161 sv] H := hP
      have hD : va_D A [oc h 9 [.ref h_s, .ref h_images, .int kept, .ref h_tape, .int typed, .ref h_draft, .int atv, .ref h_items, .ref h_moved, .ref h_sizes, .ref h_lanes, .ref h_less, .ref h_aside, .ref h_order], ai G h_s 161 sv] := hD
      refine lv_iload_n hx hb dX9_stay_43 rfl (lv_at hl 3 rfl) ?_
      have hPc := hP.sub (ws' := []) [] rfl
      have hDc := hD.sub (ws' := []) [] (by decide) rfl
      have hFc := va_free (wc := []) hD hS hA [] rfl
      refine va_calli (va_runS (As := [.int x3]) (rest := [.int r_2]) ⟨hx, hb, hml, hown, hts⟩ (mt_X9_ones l G  H.size  x3 _ hw) (va_cwS 1 hts (lw_S q907 q908 q65 q909) rfl rfl rfl (by decide +kernel) ⟨Nat.le_of_ble_eq_true rfl, Nat.le_of_ble_eq_true rfl⟩) ⟨fun a U g mk q => by obtain ⟨q0, q1, qP, qK, qD⟩ := q; exact ⟨q0, q1, qP, qK.call, qD⟩, fun U hU hW => ⟨rfl, by rw [hU], by rw [hU]; exact hPc, hK.warm hW, hDc.weaken (fun _ _ _ _ => trivial)⟩⟩ rfl rfl hl.1 rfl (lv_room (Nat.le_of_ble_eq_true rfl)) dX9_stay_44 ⟨Nat.le_of_ble_eq_true rfl, Nat.le_of_ble_eq_true rfl⟩) hS (fun q _ h => hFc q h) hFc (fun r_3 _ t H1 locs ht hvm hw hB hz1 hk1 hS => ?_)
      obtain ⟨hP1, hD1⟩ := hB
      rw [ht] at hP1
      obtain ⟨hP, hD⟩ := va_join (wr := [oc h 9 [.ref h_s, .ref h_images, .int kept, .ref h_tape, .int typed, .ref h_draft, .int atv, .ref h_items, .ref h_moved, .ref h_sizes, .ref h_lanes, .ref h_less, .ref h_aside, .ref h_order], ai G h_s 161 sv]) (w1 := []) hP hD [] [0, 1] rfl rfl (by decide) (by decide) hk1 hFc hP1 hD1
      clear hPc hDc hFc hP1 hD1 hz1 hk1 hvm
      generalize H1 = H at hP hS ⊢
      have hP : va_P G.1 gCl [oc h 9 [.ref h_s, .ref h_images, .int kept, .ref h_tape, .int typed, .ref h_draft, .int atv, .ref h_items, .ref h_moved, .ref h_sizes, .ref h_lanes, .ref h_less, .ref h_aside, .ref h_order], ai G h_s 161 sv] H := hP
      have hD : va_D A [oc h 9 [.ref h_s, .ref h_images, .int kept, .ref h_tape, .int typed, .ref h_draft, .int atv, .ref h_items, .ref h_moved, .ref h_sizes, .ref h_lanes, .ref h_less, .ref h_aside, .ref h_order], ai G h_s 161 sv] := hD
      refine lv_icmp_gt (tgt := 71) hx hb dX9_stay_47 (by decide) (fun c_4 => ?_) (fun c_4 => ?_)
      · replace hw := hw.1 c_4
        refine lv_iconst (v := (1 : Int32)) hx hb dX9_stay_71 (by decide) ?_
        refine lv_goto (tgt := 76) hx hb dX9_stay_72 (by decide) ?_
        exact wk_X9_stay_76 h h_s h_images h_tape h_draft h_items h_moved h_sizes h_lanes h_less h_aside h_order kept typed atv sv p1 p2  Q (fun a0_ a1_ => wp_X9_stay_25 sv p1 p2 Q  n a0_ a1_) C ih x3 x4 (1 : Int32) H locs hP hD hS ls (lv_sub hl [0, 1, 2, 3, 4] rfl) hw
      · replace hw := hw.2 c_4
        refine lv_iload hx hb dX9_stay_50 (lv_at hl 4 rfl) ?_
        have hPc := hP.sub (ws' := []) [] rfl
        have hDc := hD.sub (ws' := []) [] (by decide) rfl
        have hFc := va_free (wc := []) hD hS hA [] rfl
        refine va_calli (va_runS (As := [.int x4]) (rest := []) ⟨hx, hb, hml, hown, hts⟩ (mt_X9_ones l G  H.size  x4 _ hw) (va_cwS 1 hts (lw_S q907 q908 q65 q909) rfl rfl rfl (by decide +kernel) ⟨Nat.le_of_ble_eq_true rfl, Nat.le_of_ble_eq_true rfl⟩) ⟨fun a U g mk q => by obtain ⟨q0, q1, qP, qK, qD⟩ := q; exact ⟨q0, q1, qP, qK.call, qD⟩, fun U hU hW => ⟨rfl, by rw [hU], by rw [hU]; exact hPc, hK.warm hW, hDc.weaken (fun _ _ _ _ => trivial)⟩⟩ rfl rfl hl.1 rfl (lv_room (Nat.le_of_ble_eq_true rfl)) dX9_stay_52 ⟨Nat.le_of_ble_eq_true rfl, Nat.le_of_ble_eq_true rfl⟩) hS (fun q _ h => hFc q h) hFc (fun r_5 _ t H1 locs ht hvm hw hB hz1 hk1 hS => ?_)
        obtain ⟨hP1, hD1⟩ := hB
        rw [ht] at hP1
        obtain ⟨hP, hD⟩ := va_join (wr := [oc h 9 [.ref h_s, .ref h_images, .int kept, .ref h_tape, .int typed, .ref h_draft, .int atv, .ref h_items, .ref h_moved, .ref h_sizes, .ref h_lanes, .ref h_less, .ref h_aside, .ref h_order], ai G h_s 161 sv]) (w1 := []) hP hD [] [0, 1] rfl rfl (by decide) (by decide) hk1 hFc hP1 hD1
        clear hPc hDc hFc hP1 hD1 hz1 hk1 hvm
        generalize H1 = H at hP hS ⊢
        have hP : va_P G.1 gCl [oc h 9 [.ref h_s, .ref h_images, .int kept, .ref h_tape, .int typed, .ref h_draft, .int atv, .ref h_items, .ref h_moved, .ref h_sizes, .ref h_lanes, .ref h_less, .ref h_aside, .ref h_order], ai G h_s 161 sv] H := hP
        have hD : va_D A [oc h 9 [.ref h_s, .ref h_images, .int kept, .ref h_tape, .int typed, .ref h_draft, .int atv, .ref h_items, .ref h_moved, .ref h_sizes, .ref h_lanes, .ref h_less, .ref h_aside, .ref h_order], ai G h_s 161 sv] := hD
        refine lv_iload_n hx hb dX9_stay_55 rfl (lv_at hl 3 rfl) ?_
        have hPc := hP.sub (ws' := []) [] rfl
        have hDc := hD.sub (ws' := []) [] (by decide) rfl
        have hFc := va_free (wc := []) hD hS hA [] rfl
        refine va_calli (va_runS (As := [.int x3]) (rest := [.int r_5]) ⟨hx, hb, hml, hown, hts⟩ (mt_X9_ones l G  H.size  x3 _ hw) (va_cwS 1 hts (lw_S q907 q908 q65 q909) rfl rfl rfl (by decide +kernel) ⟨Nat.le_of_ble_eq_true rfl, Nat.le_of_ble_eq_true rfl⟩) ⟨fun a U g mk q => by obtain ⟨q0, q1, qP, qK, qD⟩ := q; exact ⟨q0, q1, qP, qK.call, qD⟩, fun U hU hW => ⟨rfl, by rw [hU], by rw [hU]; exact hPc, hK.warm hW, hDc.weaken (fun _ _ _ _ => trivial)⟩⟩ rfl rfl hl.1 rfl (lv_room (Nat.le_of_ble_eq_true rfl)) dX9_stay_56 ⟨Nat.le_of_ble_eq_true rfl, Nat.le_of_ble_eq_true rfl⟩) hS (fun q _ h => hFc q h) hFc (fun r_6 _ t H1 locs ht hvm hw hB hz1 hk1 hS => ?_)
        obtain ⟨hP1, hD1⟩ := hB
        rw [ht] at hP1
        obtain ⟨hP, hD⟩ := va_join (wr := [oc h 9 [.ref h_s, .ref h_images, .int kept, .ref h_tape, .int typed, .ref h_draft, .int atv, .ref h_items, .ref h_moved, .ref h_sizes, .ref h_lanes, .ref h_less, .ref h_aside, .ref h_order], ai G h_s 161 sv]) (w1 := []) hP hD [] [0, 1] rfl rfl (by decide) (by decide) hk1 hFc hP1 hD1
        clear hPc hDc hFc hP1 hD1 hz1 hk1 hvm
        generalize H1 = H at hP hS ⊢
        have hP : va_P G.1 gCl [oc h 9 [.ref h_s, .ref h_images, .int kept, .ref h_tape, .int typed, .ref h_draft, .int atv, .ref h_items, .ref h_moved, .ref h_sizes, .ref h_lanes, .ref h_less, .ref h_aside, .ref h_order], ai G h_s 161 sv] H := hP
        have hD : va_D A [oc h 9 [.ref h_s, .ref h_images, .int kept, .ref h_tape, .int typed, .ref h_draft, .int atv, .ref h_items, .ref h_moved, .ref h_sizes, .ref h_lanes, .ref h_less, .ref h_aside, .ref h_order], ai G h_s 161 sv] := hD
        refine lv_icmp_ne (tgt := 75) hx hb dX9_stay_59 (by decide) (fun c_7 => ?_) (fun c_7 => ?_)
        · replace hw := hw.1 c_7
          refine lv_iconst (v := (0 : Int32)) hx hb dX9_stay_75 (by decide) ?_
          exact wk_X9_stay_76 h h_s h_images h_tape h_draft h_items h_moved h_sizes h_lanes h_less h_aside h_order kept typed atv sv p1 p2  Q (fun a0_ a1_ => wp_X9_stay_25 sv p1 p2 Q  n a0_ a1_) C ih x3 x4 (0 : Int32) H locs hP hD hS ls (lv_sub hl [0, 1, 2, 3, 4] rfl) hw
        · replace hw := hw.2 c_7
          refine lv_iload hx hb dX9_stay_62 (lv_at hl 4 rfl) ?_
          refine lv_iload_n hx hb dX9_stay_64 rfl (lv_at hl 3 rfl) ?_
          have hPc := hP.sub (ws' := []) [] rfl
          have hDc := hD.sub (ws' := []) [] (by decide) rfl
          have hFc := va_free (wc := []) hD hS hA [] rfl
          refine va_calli (va_runS (As := [.int x4, .int x3]) (rest := []) ⟨hx, hb, hml, hown, hts⟩ (mt_X9_isAhead l G  H.size  x4 x3 _ hw) (va_cwS 2 hts (lw_S q1046 q1047 q65 q1048) rfl rfl rfl (by decide +kernel) ⟨Nat.le_of_ble_eq_true rfl, Nat.le_of_ble_eq_true rfl⟩) ⟨fun a U g mk q => by obtain ⟨q0, q1, qP, qK, qD⟩ := q; exact ⟨q0, q1, qP, qK.call, qD⟩, fun U hU hW => ⟨rfl, by rw [hU], by rw [hU]; exact hPc, hK.warm hW, hDc.weaken (fun _ _ _ _ => trivial)⟩⟩ rfl rfl hl.1 rfl (lv_room (Nat.le_of_ble_eq_true rfl)) dX9_stay_65 ⟨Nat.le_of_ble_eq_true rfl, Nat.le_of_ble_eq_true rfl⟩) hS (fun q _ h => hFc q h) hFc (fun r_8 _ t H1 locs ht hvm hw hB hz1 hk1 hS => ?_)
          obtain ⟨hP1, hD1⟩ := hB
          rw [ht] at hP1
          obtain ⟨hP, hD⟩ := va_join (wr := [oc h 9 [.ref h_s, .ref h_images, .int kept, .ref h_tape, .int typed, .ref h_draft, .int atv, .ref h_items, .ref h_moved, .ref h_sizes, .ref h_lanes, .ref h_less, .ref h_aside, .ref h_order], ai G h_s 161 sv]) (w1 := []) hP hD [] [0, 1] rfl rfl (by decide) (by decide) hk1 hFc hP1 hD1
          clear hPc hDc hFc hP1 hD1 hz1 hk1 hvm
          generalize H1 = H at hP hS ⊢
          have hP : va_P G.1 gCl [oc h 9 [.ref h_s, .ref h_images, .int kept, .ref h_tape, .int typed, .ref h_draft, .int atv, .ref h_items, .ref h_moved, .ref h_sizes, .ref h_lanes, .ref h_less, .ref h_aside, .ref h_order], ai G h_s 161 sv] H := hP
          have hD : va_D A [oc h 9 [.ref h_s, .ref h_images, .int kept, .ref h_tape, .int typed, .ref h_draft, .int atv, .ref h_items, .ref h_moved, .ref h_sizes, .ref h_lanes, .ref h_less, .ref h_aside, .ref h_order], ai G h_s 161 sv] := hD
          refine lv_if_eq (tgt := 75) hx hb dX9_stay_68 (by decide) (fun c_9 => ?_) (fun c_9 => ?_)
          · replace hw := hw.1 c_9
            refine lv_iconst (v := (0 : Int32)) hx hb dX9_stay_75 (by decide) ?_
            exact wk_X9_stay_76 h h_s h_images h_tape h_draft h_items h_moved h_sizes h_lanes h_less h_aside h_order kept typed atv sv p1 p2  Q (fun a0_ a1_ => wp_X9_stay_25 sv p1 p2 Q  n a0_ a1_) C ih x3 x4 (0 : Int32) H locs hP hD hS ls (lv_sub hl [0, 1, 2, 3, 4] rfl) hw
          · replace hw := hw.2 c_9
            refine lv_iconst (v := (1 : Int32)) hx hb dX9_stay_71 (by decide) ?_
            refine lv_goto (tgt := 76) hx hb dX9_stay_72 (by decide) ?_
            exact wk_X9_stay_76 h h_s h_images h_tape h_draft h_items h_moved h_sizes h_lanes h_less h_aside h_order kept typed atv sv p1 p2  Q (fun a0_ a1_ => wp_X9_stay_25 sv p1 p2 Q  n a0_ a1_) C ih x3 x4 (1 : Int32) H locs hP hD hS ls (lv_sub hl [0, 1, 2, 3, 4] rfl) hw
def wp_X9_stay (sv : Nat → Int32) (p1 : Int32) (p2 : Int32) (Q : Int32 → Prop) : Prop :=
  wp_X9_in  p1 (0 : Int32) (2 : Int32) (fun r_1 => (((r_1 = 0) → Q (-1 : Int32)) ∧ (¬ (r_1 = 0) → wp_X9_in  p2 (0 : Int32) (1 : Int32) (fun r_3 => ((¬ (r_3 = 0) → (∃ j_ : Nat, wp_X9_stay_25 sv p1 p2 Q  j_ (0 : Int32) (1 : Int32))) ∧ ((r_3 = 0) → Q (-1 : Int32)))))))
set_option maxHeartbeats 4000000 in
theorem mt_X9_stay (l : Launch) (G : GT) (h h_s h_images h_tape h_draft h_items h_moved h_sizes h_lanes h_less h_aside h_order : Nat) (sz : Nat) (kept : Int32) (typed : Int32) (atv : Int32) (sv : Nat → Int32) (p1 : Int32) (p2 : Int32) (Q : Int32 → Prop) (hw : wp_X9_stay sv p1 p2 Q) : Met l yX9_stay (ws_ yX9_stay cX9_stay 6 (some .int)) ({ frames := 2, cells := 0, slots := 0, locals := 47 } : Room) (va_Pc [.ref h, .int p1, .int p2] (fun U => U.heap.size = sz ∧ va_P G.1 gCl [oc h 9 [.ref h_s, .ref h_images, .int kept, .ref h_tape, .int typed, .ref h_draft, .int atv, .ref h_items, .ref h_moved, .ref h_sizes, .ref h_lanes, .ref h_less, .ref h_aside, .ref h_order], ai G h_s 161 sv] U.heap ∧ gK G U ∧ va_D (fun _ => True) [oc h 9 [.ref h_s, .ref h_images, .int kept, .ref h_tape, .int typed, .ref h_draft, .int atv, .ref h_items, .ref h_moved, .ref h_sizes, .ref h_lanes, .ref h_less, .ref h_aside, .ref h_order], ai G h_s 161 sv])) ((fun A => (va_Qi (fun (r : Int32) (u : Unit) => Q r ) (fun u t => va_P G.1 gCl [oc h 9 [.ref h_s, .ref h_images, .int kept, .ref h_tape, .int typed, .ref h_draft, .int atv, .ref h_items, .ref h_moved, .ref h_sizes, .ref h_lanes, .ref h_less, .ref h_aside, .ref h_order], ai G h_s 161 sv] t.heap ∧ va_D A [oc h 9 [.ref h_s, .ref h_images, .int kept, .ref h_tape, .int typed, .ref h_draft, .int atv, .ref h_items, .ref h_moved, .ref h_sizes, .ref h_lanes, .ref h_less, .ref h_aside, .ref h_order], ai G h_s 161 sv]) A)) (va_A [oc h 9 [.ref h_s, .ref h_images, .int kept, .ref h_tape, .int typed, .ref h_draft, .int atv, .ref h_items, .ref h_moved, .ref h_sizes, .ref h_lanes, .ref h_less, .ref h_aside, .ref h_order], ai G h_s 161 sv] sz)) 0 0 (va_A [oc h 9 [.ref h_s, .ref h_images, .int kept, .ref h_tape, .int typed, .ref h_draft, .int atv, .ref h_items, .ref h_moved, .ref h_sizes, .ref h_lanes, .ref h_less, .ref h_aside, .ref h_order], ai G h_s 161 sv] sz) := by
  refine Met.ofW (cc := cX9_stay) (maxL := 6) (ret := (some .int)) (by decide) rfl ?_
  intro p e s m args below meth c s₁ B hml hv
  obtain ⟨rfl, hsz, hP, hK, hD0⟩ := hv
  have hx := B.exec
  have hb := B.bytes
  have hr := B.returns
  have hts := atoms_spec (ws := (ws_ yX9_stay cX9_stay 6 (some .int))) B.pre
  have hts : ∀ w ∈ lw_all, w.before _ s = true := fun w h => hts w (List.mem_cons_of_mem _ h)
  have hown : s.vm.findClass RX9 = some m.cls := findClass_of_methodNamed B.named
  have hlocks := B.notSynchronized
  subst hsz
  have hD := hD0.self (sz := s.heap.size)
  generalize hAe : va_A [oc h 9 [.ref h_s, .ref h_images, .int kept, .ref h_tape, .int typed, .ref h_draft, .int atv, .ref h_items, .ref h_moved, .ref h_sizes, .ref h_lanes, .ref h_less, .ref h_aside, .ref h_order], ai G h_s 161 sv] s.heap.size = A at hD ⊢
  have hA : ∀ q : Nat, s.heap.size ≤ q → A q := fun q h => by rw [← hAe]; exact Or.inr h
  have hS : va_S A s.heap s.heap [] := va_S.rf
  have C : Cx p s m meth c cX9_stay 6 (some .int) RX9 ([.ref h, .int p1, .int p2] : List Value).toArray G A := ⟨hx, hb, hr, hlocks, hml, hown, hts, hK, hA⟩
  have hl := lv_entry ([.ref h, .int p1, .int p2]) (n := 6) (Nat.le_of_ble_eq_true rfl)
  rw [lg_entry_eq]
  generalize (lg_sl ([.ref h, .int p1, .int p2]) ++ List.replicate (6 - (lg_sl ([.ref h, .int p1, .int p2])).length) Slot.unset).toArray = ls at hl ⊢
  have hl : lv_has ls 6 [(0, .ref h), (1, .int p1), (2, .int p2)] := hl
  unfold wp_X9_stay at hw
  refine lv_iload_n hx hb dX9_stay_0 rfl (lv_at hl 1 rfl) ?_
  refine lv_iconst (v := (0 : Int32)) hx hb dX9_stay_1 (by decide) ?_
  refine lv_iconst (v := (2 : Int32)) hx hb dX9_stay_2 (by decide) ?_
  have hPc := hP.sub (ws' := []) [] rfl
  have hDc := hD.sub (ws' := []) [] (by decide) rfl
  have hFc := va_free (wc := []) hD hS hA [] rfl
  refine va_calli (va_runS (As := [.int p1, .int (0 : Int32), .int (2 : Int32)]) (rest := []) ⟨hx, hb, hml, hown, hts⟩ (mt_X9_in l G  s.heap.size  p1 (0 : Int32) (2 : Int32) _ hw) (va_cwS 3 hts (lw_S q864 q865 q65 q866) rfl rfl rfl (by decide +kernel) ⟨Nat.le_of_ble_eq_true rfl, Nat.le_of_ble_eq_true rfl⟩) ⟨fun a U g mk q => by obtain ⟨q0, q1, qP, qK, qD⟩ := q; exact ⟨q0, q1, qP, qK.call, qD⟩, fun U hU hW => ⟨rfl, by rw [hU], by rw [hU]; exact hPc, hK.warm hW, hDc.weaken (fun _ _ _ _ => trivial)⟩⟩ rfl rfl hl.1 rfl (lv_room (Nat.le_of_ble_eq_true rfl)) dX9_stay_3 ⟨Nat.le_of_ble_eq_true rfl, Nat.le_of_ble_eq_true rfl⟩) hS (fun q _ h => hFc q h) hFc (fun r_1 _ t H1 locs ht hvm hw hB hz1 hk1 hS => ?_)
  obtain ⟨hP1, hD1⟩ := hB
  rw [ht] at hP1
  obtain ⟨hP, hD⟩ := va_join (wr := [oc h 9 [.ref h_s, .ref h_images, .int kept, .ref h_tape, .int typed, .ref h_draft, .int atv, .ref h_items, .ref h_moved, .ref h_sizes, .ref h_lanes, .ref h_less, .ref h_aside, .ref h_order], ai G h_s 161 sv]) (w1 := []) hP hD [] [0, 1] rfl rfl (by decide) (by decide) hk1 hFc hP1 hD1
  clear hPc hDc hFc hP1 hD1 hz1 hk1 hvm
  generalize H1 = H at hP hS ⊢
  have hP : va_P G.1 gCl [oc h 9 [.ref h_s, .ref h_images, .int kept, .ref h_tape, .int typed, .ref h_draft, .int atv, .ref h_items, .ref h_moved, .ref h_sizes, .ref h_lanes, .ref h_less, .ref h_aside, .ref h_order], ai G h_s 161 sv] H := hP
  have hD : va_D A [oc h 9 [.ref h_s, .ref h_images, .int kept, .ref h_tape, .int typed, .ref h_draft, .int atv, .ref h_items, .ref h_moved, .ref h_sizes, .ref h_lanes, .ref h_less, .ref h_aside, .ref h_order], ai G h_s 161 sv] := hD
  refine lv_if_eq (tgt := 18) hx hb dX9_stay_6 (by decide) (fun c_2 => ?_) (fun c_2 => ?_)
  · replace hw := hw.1 c_2
    refine lv_iconst (v := (-1 : Int32)) hx hb dX9_stay_18 (by decide) ?_
    have hP9 := hP
    have hD9 := hD
    exact W.iret (v := (-1 : Int32)) hx hb hr (fun t ht hW => ⟨⟨(-1 : Int32), (), rfl, hw, by rw [ht]; exact hP9, hD9⟩, hS.F ht⟩) hS.2.2 dX9_stay_19
  · replace hw := hw.2 c_2
    refine lv_iload_n hx hb dX9_stay_9 rfl (lv_at hl 2 rfl) ?_
    refine lv_iconst (v := (0 : Int32)) hx hb dX9_stay_10 (by decide) ?_
    refine lv_iconst (v := (1 : Int32)) hx hb dX9_stay_11 (by decide) ?_
    have hPc := hP.sub (ws' := []) [] rfl
    have hDc := hD.sub (ws' := []) [] (by decide) rfl
    have hFc := va_free (wc := []) hD hS hA [] rfl
    refine va_calli (va_runS (As := [.int p2, .int (0 : Int32), .int (1 : Int32)]) (rest := []) ⟨hx, hb, hml, hown, hts⟩ (mt_X9_in l G  H.size  p2 (0 : Int32) (1 : Int32) _ hw) (va_cwS 3 hts (lw_S q864 q865 q65 q866) rfl rfl rfl (by decide +kernel) ⟨Nat.le_of_ble_eq_true rfl, Nat.le_of_ble_eq_true rfl⟩) ⟨fun a U g mk q => by obtain ⟨q0, q1, qP, qK, qD⟩ := q; exact ⟨q0, q1, qP, qK.call, qD⟩, fun U hU hW => ⟨rfl, by rw [hU], by rw [hU]; exact hPc, hK.warm hW, hDc.weaken (fun _ _ _ _ => trivial)⟩⟩ rfl rfl hl.1 rfl (lv_room (Nat.le_of_ble_eq_true rfl)) dX9_stay_12 ⟨Nat.le_of_ble_eq_true rfl, Nat.le_of_ble_eq_true rfl⟩) hS (fun q _ h => hFc q h) hFc (fun r_3 _ t H1 locs ht hvm hw hB hz1 hk1 hS => ?_)
    obtain ⟨hP1, hD1⟩ := hB
    rw [ht] at hP1
    obtain ⟨hP, hD⟩ := va_join (wr := [oc h 9 [.ref h_s, .ref h_images, .int kept, .ref h_tape, .int typed, .ref h_draft, .int atv, .ref h_items, .ref h_moved, .ref h_sizes, .ref h_lanes, .ref h_less, .ref h_aside, .ref h_order], ai G h_s 161 sv]) (w1 := []) hP hD [] [0, 1] rfl rfl (by decide) (by decide) hk1 hFc hP1 hD1
    clear hPc hDc hFc hP1 hD1 hz1 hk1 hvm
    generalize H1 = H at hP hS ⊢
    have hP : va_P G.1 gCl [oc h 9 [.ref h_s, .ref h_images, .int kept, .ref h_tape, .int typed, .ref h_draft, .int atv, .ref h_items, .ref h_moved, .ref h_sizes, .ref h_lanes, .ref h_less, .ref h_aside, .ref h_order], ai G h_s 161 sv] H := hP
    have hD : va_D A [oc h 9 [.ref h_s, .ref h_images, .int kept, .ref h_tape, .int typed, .ref h_draft, .int atv, .ref h_items, .ref h_moved, .ref h_sizes, .ref h_lanes, .ref h_less, .ref h_aside, .ref h_order], ai G h_s 161 sv] := hD
    refine lv_if_ne (tgt := 20) hx hb dX9_stay_15 (by decide) (fun c_4 => ?_) (fun c_4 => ?_)
    · replace hw := hw.1 c_4
      refine lv_iconst (v := (0 : Int32)) hx hb dX9_stay_20 (by decide) ?_
      refine lv_istore_n (lv' := [(3, .int (0 : Int32)), (0, .ref h), (1, .int p1), (2, .int p2)]) hx hb dX9_stay_21 rfl hl (by decide) rfl (fun ls hl => ?_)
      refine lv_iconst (v := (1 : Int32)) hx hb dX9_stay_22 (by decide) ?_
      refine lv_istore (lv' := [(4, .int (1 : Int32)), (3, .int (0 : Int32)), (0, .ref h), (1, .int p1), (2, .int p2)]) hx hb dX9_stay_23 hl (by decide) rfl (fun ls hl => ?_)
      obtain ⟨j_, hw⟩ := hw
      exact wk_X9_stay_25 h h_s h_images h_tape h_draft h_items h_moved h_sizes h_lanes h_less h_aside h_order kept typed atv sv p1 p2  Q  C  j_ (0 : Int32) (1 : Int32) H locs hP hD hS ls (lv_sub hl [2, 3, 4, 1, 0] rfl) hw
    · replace hw := hw.2 c_4
      refine lv_iconst (v := (-1 : Int32)) hx hb dX9_stay_18 (by decide) ?_
      have hP9 := hP
      have hD9 := hD
      exact W.iret (v := (-1 : Int32)) hx hb hr (fun t ht hW => ⟨⟨(-1 : Int32), (), rfl, hw, by rw [ht]; exact hP9, hD9⟩, hS.F ht⟩) hS.2.2 dX9_stay_19
/-! BattleBenchModel.firstOrder()V -/
def wp_X9_firstOrder_9  (Q : ((Nat → Int32)) → Prop)  : Nat → (Nat → Int32) → Int32 → Int32 → Int32 → Prop
  | 0, _, _, _, _ => False
  | n + 1, sv, x1, x2, x3 =>
    ((((6 : Int32) ≤ x3) → Q sv) ∧ (¬ ((6 : Int32) ≤ x3) → wp_X9_has  x1 x3 (fun r_2 => (((r_2 = 0) → wp_X9_firstOrder_9  Q  n sv x1 x2 (x3 + (1 : Int32))) ∧ (¬ (r_2 = 0) → (vp_in ((10 : Int32) + x2) 161 ∧ ∀ f_5 : Nat → Int32, f_5 = upd sv (((10 : Int32) + x2)).toNatClampNeg x3 → wp_X9_firstOrder_9  Q  n f_5 x1 (x2 + (1 : Int32)) (x3 + (1 : Int32))))))))
set_option maxHeartbeats 4000000 in
theorem wk_X9_firstOrder_9 {p : Program} {l : Launch} {e : Env} {s : State} {m : MethodId} {below : List Frame} {meth : Method} {c : Code} {args : Array Value} {G : GT} {A : Nat → Prop} (h h_s h_images h_tape h_draft h_items h_moved h_sizes h_lanes h_less h_aside h_order : Nat) (kept : Int32) (typed : Int32) (atv : Int32) (Q : ((Nat → Int32)) → Prop)  (C : Cx p s m meth c cX9_firstOrder 4 none RX9 args G A)  :
    ∀ (n : Nat), ∀  (sv : Nat → Int32) (x1 : Int32) (x2 : Int32) (x3 : Int32) (H : Heap) (locs : List Loc), va_P G.1 gCl [oc h 9 [.ref h_s, .ref h_images, .int kept, .ref h_tape, .int typed, .ref h_draft, .int atv, .ref h_items, .ref h_moved, .ref h_sizes, .ref h_lanes, .ref h_less, .ref h_aside, .ref h_order], ai G h_s 161 sv] H → va_D A [oc h 9 [.ref h_s, .ref h_images, .int kept, .ref h_tape, .int typed, .ref h_draft, .int atv, .ref h_items, .ref h_moved, .ref h_sizes, .ref h_lanes, .ref h_less, .ref h_aside, .ref h_order], ai G h_s 161 sv] → va_S A s.heap H locs → ∀ (ls : Array Slot), lv_has ls 4 [(0, .ref h), (1, .int x1), (2, .int x2), (3, .int x3)] → wp_X9_firstOrder_9  Q  n sv x1 x2 x3 → W p l e ({ frames := 1, cells := 0, slots := 0, locals := 22 } : Room) s m args below meth c H locs 0 0 (MQ below (va_Qv (fun (u : (Nat → Int32)) => Q u) (fun u t => va_P G.1 gCl [oc h 9 [.ref h_s, .ref h_images, .int kept, .ref h_tape, .int typed, .ref h_draft, .int atv, .ref h_items, .ref h_moved, .ref h_sizes, .ref h_lanes, .ref h_less, .ref h_aside, .ref h_order], ai G h_s 161 u] t.heap ∧ va_D A [oc h 9 [.ref h_s, .ref h_images, .int kept, .ref h_tape, .int typed, .ref h_draft, .int atv, .ref h_items, .ref h_moved, .ref h_sizes, .ref h_lanes, .ref h_less, .ref h_aside, .ref h_order], ai G h_s 161 u]) A) args s 0 0 A) (F0 m 9 ls []) := by
  have C9 := C
  obtain ⟨hx, hb, hr, hlocks, hml, hown, hts, hK, hA⟩ := C9
  intro n
  induction n with
  | zero => intro sv x1 x2 x3 H locs hP hD hS ls hl hw; exact False.elim hw
  | succ n ih =>
    intro sv x1 x2 x3 H locs hP hD hS ls hl hw
    unfold wp_X9_firstOrder_9 at hw
    refine lv_iload_n hx hb dX9_firstOrder_9 rfl (lv_at hl 3 rfl) ?_
    refine lv_bipush (v := (6 : Int32)) hx hb dX9_firstOrder_10 (by decide) ?_
    refine lv_icmp_ge (tgt := 42) hx hb dX9_firstOrder_12 (by decide) (fun c_1 => ?_) (fun c_1 => ?_)
    · replace hw := hw.1 c_1
      have hP9 := hP
      have hD9 := hD
      exact W.vret hx hb hr (fun t ht hW => ⟨⟨sv, rfl, hw, by rw [ht]; exact hP9, hD9⟩, hS.F ht⟩) hS.2.2 dX9_firstOrder_42
    · replace hw := hw.2 c_1
      refine lv_iload_n hx hb dX9_firstOrder_15 rfl (lv_at hl 1 rfl) ?_
      refine lv_iload_n hx hb dX9_firstOrder_16 rfl (lv_at hl 3 rfl) ?_
      have hPc := hP.sub (ws' := []) [] rfl
      have hDc := hD.sub (ws' := []) [] (by decide) rfl
      have hFc := va_free (wc := []) hD hS hA [] rfl
      refine va_calli (va_runS (As := [.int x1, .int x3]) (rest := []) ⟨hx, hb, hml, hown, hts⟩ (mt_X9_has l G  H.size  x1 x3 _ hw) (va_cwS 2 hts (lw_S q976 q977 q65 q978) rfl rfl rfl (by decide +kernel) ⟨Nat.le_of_ble_eq_true rfl, Nat.le_of_ble_eq_true rfl⟩) ⟨fun a U g mk q => by obtain ⟨q0, q1, qP, qK, qD⟩ := q; exact ⟨q0, q1, qP, qK.call, qD⟩, fun U hU hW => ⟨rfl, by rw [hU], by rw [hU]; exact hPc, hK.warm hW, hDc.weaken (fun _ _ _ _ => trivial)⟩⟩ rfl rfl hl.1 rfl (lv_room (Nat.le_of_ble_eq_true rfl)) dX9_firstOrder_17 ⟨Nat.le_of_ble_eq_true rfl, Nat.le_of_ble_eq_true rfl⟩) hS (fun q _ h => hFc q h) hFc (fun r_2 _ t H1 locs ht hvm hw hB hz1 hk1 hS => ?_)
      obtain ⟨hP1, hD1⟩ := hB
      rw [ht] at hP1
      obtain ⟨hP, hD⟩ := va_join (wr := [oc h 9 [.ref h_s, .ref h_images, .int kept, .ref h_tape, .int typed, .ref h_draft, .int atv, .ref h_items, .ref h_moved, .ref h_sizes, .ref h_lanes, .ref h_less, .ref h_aside, .ref h_order], ai G h_s 161 sv]) (w1 := []) hP hD [] [0, 1] rfl rfl (by decide) (by decide) hk1 hFc hP1 hD1
      clear hPc hDc hFc hP1 hD1 hz1 hk1 hvm
      generalize H1 = H at hP hS ⊢
      have hP : va_P G.1 gCl [oc h 9 [.ref h_s, .ref h_images, .int kept, .ref h_tape, .int typed, .ref h_draft, .int atv, .ref h_items, .ref h_moved, .ref h_sizes, .ref h_lanes, .ref h_less, .ref h_aside, .ref h_order], ai G h_s 161 sv] H := hP
      have hD : va_D A [oc h 9 [.ref h_s, .ref h_images, .int kept, .ref h_tape, .int typed, .ref h_draft, .int atv, .ref h_items, .ref h_moved, .ref h_sizes, .ref h_lanes, .ref h_less, .ref h_aside, .ref h_order], ai G h_s 161 sv] := hD
      refine lv_if_eq (tgt := 36) hx hb dX9_firstOrder_20 (by decide) (fun c_3 => ?_) (fun c_3 => ?_)
      · replace hw := hw.1 c_3
        refine lv_iinc (v := (x3 + (1 : Int32))) (lv' := [(3, .int (x3 + (1 : Int32))), (0, .ref h), (1, .int x1), (2, .int x2)]) hx hb dX9_firstOrder_36 hl (k := 3) rfl rfl (by decide) rfl (fun ls hl => ?_)
        refine lv_goto (tgt := 9) hx hb dX9_firstOrder_39 (by decide) ?_
        exact ih sv x1 x2 (x3 + (1 : Int32)) H locs hP hD hS ls (lv_sub hl [1, 2, 3, 0] rfl) hw
      · replace hw := hw.2 c_3
        refine lv_aload_n hx hb dX9_firstOrder_23 rfl (lv_at hl 0 rfl) ?_
        refine va_get (D := G.1) (ci := 9) (v := .ref h_s) (C := RX9) (T := TX9) (N := 14) hx hb hts in_X9 hown hK.1 hP 0 rfl rfl 0 (by decide) (hts _ q817) (fun _ h9 => h9) rfl dX9_firstOrder_24 ?_
        refine lv_bipush (v := (10 : Int32)) hx hb dX9_firstOrder_27 (by decide) ?_
        refine lv_iload_n hx hb dX9_firstOrder_29 rfl (lv_at hl 2 rfl) ?_
        refine lv_iadd hx hb dX9_firstOrder_30 ?_
        refine lv_iload_n hx hb dX9_firstOrder_31 rfl (lv_at hl 3 rfl) ?_
        obtain ⟨i_4, hw⟩ := hw
        refine z_iast hx hb hK.1 hP hD hS 1 0 rfl rfl i_4 dX9_firstOrder_32 (k := (((10 : Int32) + x2)).toNatClampNeg) rfl (fun f_5 ef_5 H locs hP hD hS => ?_)
        replace hw := hw f_5 ef_5
        have hP : va_P G.1 gCl [oc h 9 [.ref h_s, .ref h_images, .int kept, .ref h_tape, .int typed, .ref h_draft, .int atv, .ref h_items, .ref h_moved, .ref h_sizes, .ref h_lanes, .ref h_less, .ref h_aside, .ref h_order], ai G h_s 161 f_5] H := hP
        have hD : va_D A [oc h 9 [.ref h_s, .ref h_images, .int kept, .ref h_tape, .int typed, .ref h_draft, .int atv, .ref h_items, .ref h_moved, .ref h_sizes, .ref h_lanes, .ref h_less, .ref h_aside, .ref h_order], ai G h_s 161 f_5] := hD
        refine lv_iinc (v := (x2 + (1 : Int32))) (lv' := [(2, .int (x2 + (1 : Int32))), (0, .ref h), (1, .int x1), (3, .int x3)]) hx hb dX9_firstOrder_33 hl (k := 2) rfl rfl (by decide) rfl (fun ls hl => ?_)
        refine lv_iinc (v := (x3 + (1 : Int32))) (lv' := [(3, .int (x3 + (1 : Int32))), (2, .int (x2 + (1 : Int32))), (0, .ref h), (1, .int x1)]) hx hb dX9_firstOrder_36 hl (k := 3) rfl rfl (by decide) rfl (fun ls hl => ?_)
        refine lv_goto (tgt := 9) hx hb dX9_firstOrder_39 (by decide) ?_
        exact ih f_5 x1 (x2 + (1 : Int32)) (x3 + (1 : Int32)) H locs hP hD hS ls (lv_sub hl [2, 3, 1, 0] rfl) hw
def wp_X9_firstOrder (sv : Nat → Int32) (Q : ((Nat → Int32)) → Prop) : Prop :=
  wp_X9_bench sv  (fun r_1 => (∃ j_ : Nat, wp_X9_firstOrder_9  Q  j_ sv r_1 (0 : Int32) (0 : Int32)))
set_option maxHeartbeats 4000000 in
theorem mt_X9_firstOrder (l : Launch) (G : GT) (h h_s h_images h_tape h_draft h_items h_moved h_sizes h_lanes h_less h_aside h_order : Nat) (sz : Nat) (kept : Int32) (typed : Int32) (atv : Int32) (sv : Nat → Int32) (Q : ((Nat → Int32)) → Prop) (hw : wp_X9_firstOrder sv Q) : Met l yX9_firstOrder (ws_ yX9_firstOrder cX9_firstOrder 4 none) ({ frames := 1, cells := 0, slots := 0, locals := 22 } : Room) (va_Pc [.ref h] (fun U => U.heap.size = sz ∧ va_P G.1 gCl [oc h 9 [.ref h_s, .ref h_images, .int kept, .ref h_tape, .int typed, .ref h_draft, .int atv, .ref h_items, .ref h_moved, .ref h_sizes, .ref h_lanes, .ref h_less, .ref h_aside, .ref h_order], ai G h_s 161 sv] U.heap ∧ gK G U ∧ va_D (fun _ => True) [oc h 9 [.ref h_s, .ref h_images, .int kept, .ref h_tape, .int typed, .ref h_draft, .int atv, .ref h_items, .ref h_moved, .ref h_sizes, .ref h_lanes, .ref h_less, .ref h_aside, .ref h_order], ai G h_s 161 sv])) ((fun A => (va_Qv (fun (u : (Nat → Int32)) => Q u) (fun u t => va_P G.1 gCl [oc h 9 [.ref h_s, .ref h_images, .int kept, .ref h_tape, .int typed, .ref h_draft, .int atv, .ref h_items, .ref h_moved, .ref h_sizes, .ref h_lanes, .ref h_less, .ref h_aside, .ref h_order], ai G h_s 161 u] t.heap ∧ va_D A [oc h 9 [.ref h_s, .ref h_images, .int kept, .ref h_tape, .int typed, .ref h_draft, .int atv, .ref h_items, .ref h_moved, .ref h_sizes, .ref h_lanes, .ref h_less, .ref h_aside, .ref h_order], ai G h_s 161 u]) A)) (va_A [oc h 9 [.ref h_s, .ref h_images, .int kept, .ref h_tape, .int typed, .ref h_draft, .int atv, .ref h_items, .ref h_moved, .ref h_sizes, .ref h_lanes, .ref h_less, .ref h_aside, .ref h_order], ai G h_s 161 sv] sz)) 0 0 (va_A [oc h 9 [.ref h_s, .ref h_images, .int kept, .ref h_tape, .int typed, .ref h_draft, .int atv, .ref h_items, .ref h_moved, .ref h_sizes, .ref h_lanes, .ref h_less, .ref h_aside, .ref h_order], ai G h_s 161 sv] sz) := by
  refine Met.ofW (cc := cX9_firstOrder) (maxL := 4) (ret := none) (by decide) rfl ?_
  intro p e s m args below meth c s₁ B hml hv
  obtain ⟨rfl, hsz, hP, hK, hD0⟩ := hv
  have hx := B.exec
  have hb := B.bytes
  have hr := B.returns
  have hts := atoms_spec (ws := (ws_ yX9_firstOrder cX9_firstOrder 4 none)) B.pre
  have hts : ∀ w ∈ lw_all, w.before _ s = true := fun w h => hts w (List.mem_cons_of_mem _ h)
  have hown : s.vm.findClass RX9 = some m.cls := findClass_of_methodNamed B.named
  have hlocks := B.notSynchronized
  subst hsz
  have hD := hD0.self (sz := s.heap.size)
  generalize hAe : va_A [oc h 9 [.ref h_s, .ref h_images, .int kept, .ref h_tape, .int typed, .ref h_draft, .int atv, .ref h_items, .ref h_moved, .ref h_sizes, .ref h_lanes, .ref h_less, .ref h_aside, .ref h_order], ai G h_s 161 sv] s.heap.size = A at hD ⊢
  have hA : ∀ q : Nat, s.heap.size ≤ q → A q := fun q h => by rw [← hAe]; exact Or.inr h
  have hS : va_S A s.heap s.heap [] := va_S.rf
  have C : Cx p s m meth c cX9_firstOrder 4 none RX9 ([.ref h] : List Value).toArray G A := ⟨hx, hb, hr, hlocks, hml, hown, hts, hK, hA⟩
  have hl := lv_entry ([.ref h]) (n := 4) (Nat.le_of_ble_eq_true rfl)
  rw [lg_entry_eq]
  generalize (lg_sl ([.ref h]) ++ List.replicate (4 - (lg_sl ([.ref h])).length) Slot.unset).toArray = ls at hl ⊢
  have hl : lv_has ls 4 [(0, .ref h)] := hl
  unfold wp_X9_firstOrder at hw
  refine lv_aload_n hx hb dX9_firstOrder_0 rfl (lv_at hl 0 rfl) ?_
  have hPc := hP.sub (ws' := [oc h 9 [.ref h_s, .ref h_images, .int kept, .ref h_tape, .int typed, .ref h_draft, .int atv, .ref h_items, .ref h_moved, .ref h_sizes, .ref h_lanes, .ref h_less, .ref h_aside, .ref h_order], ai G h_s 161 sv]) [0, 1] rfl
  have hDc := hD.sub (ws' := [oc h 9 [.ref h_s, .ref h_images, .int kept, .ref h_tape, .int typed, .ref h_draft, .int atv, .ref h_items, .ref h_moved, .ref h_sizes, .ref h_lanes, .ref h_less, .ref h_aside, .ref h_order], ai G h_s 161 sv]) [0, 1] (by decide) rfl
  have hFc := va_free (wc := [oc h 9 [.ref h_s, .ref h_images, .int kept, .ref h_tape, .int typed, .ref h_draft, .int atv, .ref h_items, .ref h_moved, .ref h_sizes, .ref h_lanes, .ref h_less, .ref h_aside, .ref h_order], ai G h_s 161 sv]) hD hS hA [0, 1] rfl
  refine va_calli (va_runV (As := []) (rest := []) ⟨hx, hb, hml, hown, hts⟩ (mt_X9_bench l G h h_s h_images h_tape h_draft h_items h_moved h_sizes h_lanes h_less h_aside h_order s.heap.size kept typed atv sv  _ hw) (cwV 0 hts (lw_V q952 q954 qs39 q65 q955) rfl rfl rfl (by decide +kernel) ⟨Nat.le_of_ble_eq_true rfl, Nat.le_of_ble_eq_true rfl⟩) ⟨fun a U g mk q => by obtain ⟨q0, q1, qP, qK, qD⟩ := q; exact ⟨q0, q1, qP, qK.call, qD⟩, va_recv hK.1 hP (ci := 9) (q0 := 0) rfl rfl, fun U hU hW => ⟨rfl, by rw [hU], by rw [hU]; exact hPc, hK.warm hW, hDc.weaken (fun _ _ _ _ => trivial)⟩⟩ rfl rfl hl.1 rfl (lv_room (Nat.le_of_ble_eq_true rfl)) dX9_firstOrder_1 ⟨Nat.le_of_ble_eq_true rfl, Nat.le_of_ble_eq_true rfl⟩) hS (fun q _ h => hFc q h) hFc (fun r_1 _ t H1 locs ht hvm hw hB hz1 hk1 hS => ?_)
  obtain ⟨hP1, hD1⟩ := hB
  rw [ht] at hP1
  obtain ⟨hP, hD⟩ := va_join (wr := []) (w1 := [oc h 9 [.ref h_s, .ref h_images, .int kept, .ref h_tape, .int typed, .ref h_draft, .int atv, .ref h_items, .ref h_moved, .ref h_sizes, .ref h_lanes, .ref h_less, .ref h_aside, .ref h_order], ai G h_s 161 sv]) hP hD [0, 1] [] rfl rfl (by decide) (by decide) hk1 hFc hP1 hD1
  clear hPc hDc hFc hP1 hD1 hz1 hk1 hvm
  generalize H1 = H at hP hS ⊢
  have hP : va_P G.1 gCl [oc h 9 [.ref h_s, .ref h_images, .int kept, .ref h_tape, .int typed, .ref h_draft, .int atv, .ref h_items, .ref h_moved, .ref h_sizes, .ref h_lanes, .ref h_less, .ref h_aside, .ref h_order], ai G h_s 161 sv] H := hP
  have hD : va_D A [oc h 9 [.ref h_s, .ref h_images, .int kept, .ref h_tape, .int typed, .ref h_draft, .int atv, .ref h_items, .ref h_moved, .ref h_sizes, .ref h_lanes, .ref h_less, .ref h_aside, .ref h_order], ai G h_s 161 sv] := hD
  refine lv_istore_n (lv' := [(1, .int r_1), (0, .ref h)]) hx hb dX9_firstOrder_4 rfl hl (by decide) rfl (fun ls hl => ?_)
  refine lv_iconst (v := (0 : Int32)) hx hb dX9_firstOrder_5 (by decide) ?_
  refine lv_istore_n (lv' := [(2, .int (0 : Int32)), (1, .int r_1), (0, .ref h)]) hx hb dX9_firstOrder_6 rfl hl (by decide) rfl (fun ls hl => ?_)
  refine lv_iconst (v := (0 : Int32)) hx hb dX9_firstOrder_7 (by decide) ?_
  refine lv_istore_n (lv' := [(3, .int (0 : Int32)), (2, .int (0 : Int32)), (1, .int r_1), (0, .ref h)]) hx hb dX9_firstOrder_8 rfl hl (by decide) rfl (fun ls hl => ?_)
  obtain ⟨j_, hw⟩ := hw
  exact wk_X9_firstOrder_9 h h_s h_images h_tape h_draft h_items h_moved h_sizes h_lanes h_less h_aside h_order kept typed atv  Q  C  j_ sv r_1 (0 : Int32) (0 : Int32) H locs hP hD hS ls (lv_sub hl [3, 2, 1, 0] rfl) hw
/-! BattleBenchModel.nextOrder()Z -/
def wp_X9_nextOrder_137  (Q : Int32 → ((Nat → Int32)) → Prop)  : Nat → (Nat → Int32) → Int32 → Int32 → Prop
  | 0, _, _, _ => False
  | n + 1, sv, x4, x5 =>
    (((x5 ≤ x4) → Q (1 : Int32) sv) ∧ (¬ (x5 ≤ x4) → (vp_in ((10 : Int32) + x4) 161 ∧ (∀ v_3 : Int32, v_3 = (sv (((10 : Int32) + x4)).toNatClampNeg) → (vp_in ((10 : Int32) + x5) 161 ∧ (∀ v_5 : Int32, v_5 = (sv (((10 : Int32) + x5)).toNatClampNeg) → (vp_in ((10 : Int32) + x4) 161 ∧ ∀ f_7 : Nat → Int32, f_7 = upd sv (((10 : Int32) + x4)).toNatClampNeg v_5 → (vp_in ((10 : Int32) + x5) 161 ∧ ∀ f_9 : Nat → Int32, f_9 = upd f_7 (((10 : Int32) + x5)).toNatClampNeg v_3 → wp_X9_nextOrder_137  Q  n f_9 (x4 + (1 : Int32)) (x5 + (-1 : Int32))))))))))
set_option maxHeartbeats 4000000 in
theorem wk_X9_nextOrder_137 {p : Program} {l : Launch} {e : Env} {s : State} {m : MethodId} {below : List Frame} {meth : Method} {c : Code} {args : Array Value} {G : GT} {A : Nat → Prop} (h h_s h_images h_tape h_draft h_items h_moved h_sizes h_lanes h_less h_aside h_order : Nat) (kept : Int32) (typed : Int32) (atv : Int32) (Q : Int32 → ((Nat → Int32)) → Prop)  (C : Cx p s m meth c cX9_nextOrder 6 (some .boolean) RX9 args G A)  :
    ∀ (n : Nat), ∀  (sv : Nat → Int32) (x4 : Int32) (x5 : Int32) (H : Heap) (locs : List Loc), va_P G.1 gCl [oc h 9 [.ref h_s, .ref h_images, .int kept, .ref h_tape, .int typed, .ref h_draft, .int atv, .ref h_items, .ref h_moved, .ref h_sizes, .ref h_lanes, .ref h_less, .ref h_aside, .ref h_order], ai G h_s 161 sv] H → va_D A [oc h 9 [.ref h_s, .ref h_images, .int kept, .ref h_tape, .int typed, .ref h_draft, .int atv, .ref h_items, .ref h_moved, .ref h_sizes, .ref h_lanes, .ref h_less, .ref h_aside, .ref h_order], ai G h_s 161 sv] → va_S A s.heap H locs → ∀ (ls : Array Slot), lv_has ls 6 [(0, .ref h), (4, .int x4), (5, .int x5)] → wp_X9_nextOrder_137  Q  n sv x4 x5 → W p l e ({ frames := 0, cells := 0, slots := 0, locals := 0 } : Room) s m args below meth c H locs 0 0 (MQ below (va_Qi (fun (r : Int32) (u : (Nat → Int32)) => Q r u) (fun u t => va_P G.1 gCl [oc h 9 [.ref h_s, .ref h_images, .int kept, .ref h_tape, .int typed, .ref h_draft, .int atv, .ref h_items, .ref h_moved, .ref h_sizes, .ref h_lanes, .ref h_less, .ref h_aside, .ref h_order], ai G h_s 161 u] t.heap ∧ va_D A [oc h 9 [.ref h_s, .ref h_images, .int kept, .ref h_tape, .int typed, .ref h_draft, .int atv, .ref h_items, .ref h_moved, .ref h_sizes, .ref h_lanes, .ref h_less, .ref h_aside, .ref h_order], ai G h_s 161 u]) A) args s 0 0 A) (F0 m 137 ls []) := by
  have C9 := C
  obtain ⟨hx, hb, hr, hlocks, hml, hown, hts, hK, hA⟩ := C9
  intro n
  induction n with
  | zero => intro sv x4 x5 H locs hP hD hS ls hl hw; exact False.elim hw
  | succ n ih =>
    intro sv x4 x5 H locs hP hD hS ls hl hw
    unfold wp_X9_nextOrder_137 at hw
    refine lv_iload hx hb dX9_nextOrder_137 (lv_at hl 1 rfl) ?_
    refine lv_iload hx hb dX9_nextOrder_139 (lv_at hl 2 rfl) ?_
    refine lv_icmp_ge (tgt := 195) hx hb dX9_nextOrder_141 (by decide) (fun c_1 => ?_) (fun c_1 => ?_)
    · replace hw := hw.1 c_1
      refine lv_iconst (v := (1 : Int32)) hx hb dX9_nextOrder_195 (by decide) ?_
      have hP9 := hP
      have hD9 := hD
      exact W.zret (v := (1 : Int32)) hx hb hr rfl (fun t ht hW => ⟨⟨(1 : Int32), sv, rfl, hw, by rw [ht]; exact hP9, hD9⟩, hS.F ht⟩) hS.2.2 dX9_nextOrder_196
    · replace hw := hw.2 c_1
      refine lv_aload_n hx hb dX9_nextOrder_144 rfl (lv_at hl 0 rfl) ?_
      refine va_get (D := G.1) (ci := 9) (v := .ref h_s) (C := RX9) (T := TX9) (N := 14) hx hb hts in_X9 hown hK.1 hP 0 rfl rfl 0 (by decide) (hts _ q817) (fun _ h9 => h9) rfl dX9_nextOrder_145 ?_
      refine lv_bipush (v := (10 : Int32)) hx hb dX9_nextOrder_148 (by decide) ?_
      refine lv_iload hx hb dX9_nextOrder_150 (lv_at hl 1 rfl) ?_
      refine lv_iadd hx hb dX9_nextOrder_152 ?_
      obtain ⟨i_2, hw⟩ := hw
      refine z_iald hx hb hK.1 hP 1 0 rfl rfl i_2 dX9_nextOrder_153 (k := (((10 : Int32) + x4)).toNatClampNeg) rfl ?_
      refine lv_topi (fun v_3 ev_3 => ?_)
      replace hw := hw v_3 ev_3
      refine lv_istore_n (lv' := [(3, .int v_3), (0, .ref h), (4, .int x4), (5, .int x5)]) hx hb dX9_nextOrder_154 rfl hl (by decide) rfl (fun ls hl => ?_)
      refine lv_aload_n hx hb dX9_nextOrder_155 rfl (lv_at hl 1 rfl) ?_
      refine va_get (D := G.1) (ci := 9) (v := .ref h_s) (C := RX9) (T := TX9) (N := 14) hx hb hts in_X9 hown hK.1 hP 0 rfl rfl 0 (by decide) (hts _ q817) (fun _ h9 => h9) rfl dX9_nextOrder_156 ?_
      refine lv_bipush (v := (10 : Int32)) hx hb dX9_nextOrder_159 (by decide) ?_
      refine lv_iload hx hb dX9_nextOrder_161 (lv_at hl 2 rfl) ?_
      refine lv_iadd hx hb dX9_nextOrder_163 ?_
      refine lv_aload_n hx hb dX9_nextOrder_164 rfl (lv_at hl 1 rfl) ?_
      refine va_get (D := G.1) (ci := 9) (v := .ref h_s) (C := RX9) (T := TX9) (N := 14) hx hb hts in_X9 hown hK.1 hP 0 rfl rfl 0 (by decide) (hts _ q817) (fun _ h9 => h9) rfl dX9_nextOrder_165 ?_
      refine lv_bipush (v := (10 : Int32)) hx hb dX9_nextOrder_168 (by decide) ?_
      refine lv_iload hx hb dX9_nextOrder_170 (lv_at hl 3 rfl) ?_
      refine lv_iadd hx hb dX9_nextOrder_172 ?_
      obtain ⟨i_4, hw⟩ := hw
      refine z_iald hx hb hK.1 hP 1 0 rfl rfl i_4 dX9_nextOrder_173 (k := (((10 : Int32) + x5)).toNatClampNeg) rfl ?_
      refine lv_topi (fun v_5 ev_5 => ?_)
      replace hw := hw v_5 ev_5
      obtain ⟨i_6, hw⟩ := hw
      refine z_iast hx hb hK.1 hP hD hS 1 0 rfl rfl i_6 dX9_nextOrder_174 (k := (((10 : Int32) + x4)).toNatClampNeg) rfl (fun f_7 ef_7 H locs hP hD hS => ?_)
      replace hw := hw f_7 ef_7
      have hP : va_P G.1 gCl [oc h 9 [.ref h_s, .ref h_images, .int kept, .ref h_tape, .int typed, .ref h_draft, .int atv, .ref h_items, .ref h_moved, .ref h_sizes, .ref h_lanes, .ref h_less, .ref h_aside, .ref h_order], ai G h_s 161 f_7] H := hP
      have hD : va_D A [oc h 9 [.ref h_s, .ref h_images, .int kept, .ref h_tape, .int typed, .ref h_draft, .int atv, .ref h_items, .ref h_moved, .ref h_sizes, .ref h_lanes, .ref h_less, .ref h_aside, .ref h_order], ai G h_s 161 f_7] := hD
      refine lv_aload_n hx hb dX9_nextOrder_175 rfl (lv_at hl 1 rfl) ?_
      refine va_get (D := G.1) (ci := 9) (v := .ref h_s) (C := RX9) (T := TX9) (N := 14) hx hb hts in_X9 hown hK.1 hP 0 rfl rfl 0 (by decide) (hts _ q817) (fun _ h9 => h9) rfl dX9_nextOrder_176 ?_
      refine lv_bipush (v := (10 : Int32)) hx hb dX9_nextOrder_179 (by decide) ?_
      refine lv_iload hx hb dX9_nextOrder_181 (lv_at hl 3 rfl) ?_
      refine lv_iadd hx hb dX9_nextOrder_183 ?_
      refine lv_iload_n hx hb dX9_nextOrder_184 rfl (lv_at hl 0 rfl) ?_
      obtain ⟨i_8, hw⟩ := hw
      refine z_iast hx hb hK.1 hP hD hS 1 0 rfl rfl i_8 dX9_nextOrder_185 (k := (((10 : Int32) + x5)).toNatClampNeg) rfl (fun f_9 ef_9 H locs hP hD hS => ?_)
      replace hw := hw f_9 ef_9
      have hP : va_P G.1 gCl [oc h 9 [.ref h_s, .ref h_images, .int kept, .ref h_tape, .int typed, .ref h_draft, .int atv, .ref h_items, .ref h_moved, .ref h_sizes, .ref h_lanes, .ref h_less, .ref h_aside, .ref h_order], ai G h_s 161 f_9] H := hP
      have hD : va_D A [oc h 9 [.ref h_s, .ref h_images, .int kept, .ref h_tape, .int typed, .ref h_draft, .int atv, .ref h_items, .ref h_moved, .ref h_sizes, .ref h_lanes, .ref h_less, .ref h_aside, .ref h_order], ai G h_s 161 f_9] := hD
      refine lv_iinc (v := (x4 + (1 : Int32))) (lv' := [(4, .int (x4 + (1 : Int32))), (3, .int v_3), (0, .ref h), (5, .int x5)]) hx hb dX9_nextOrder_186 hl (k := 2) rfl rfl (by decide) rfl (fun ls hl => ?_)
      refine lv_iinc (v := (x5 + (-1 : Int32))) (lv' := [(5, .int (x5 + (-1 : Int32))), (4, .int (x4 + (1 : Int32))), (3, .int v_3), (0, .ref h)]) hx hb dX9_nextOrder_189 hl (k := 3) rfl rfl (by decide) rfl (fun ls hl => ?_)
      refine lv_goto (tgt := 137) hx hb dX9_nextOrder_192 (by decide) ?_
      exact ih f_9 (x4 + (1 : Int32)) (x5 + (-1 : Int32)) H locs hP hD hS ls (lv_sub hl [3, 1, 0] rfl) hw
def wp_X9_nextOrder_57  (Q : Int32 → ((Nat → Int32)) → Prop)  : Nat → (Nat → Int32) → Int32 → Int32 → Prop
  | 0, _, _, _ => False
  | n + 1, sv, x1, x2 =>
    (vp_in ((10 : Int32) + x2) 161 ∧ (vp_in ((10 : Int32) + x1) 161 ∧ ((((sv (((10 : Int32) + x1)).toNatClampNeg) ≤ (sv (((10 : Int32) + x2)).toNatClampNeg)) → (vp_in ((10 : Int32) + x1) 161 ∧ (∀ v_5 : Int32, v_5 = (sv (((10 : Int32) + x1)).toNatClampNeg) → (vp_in ((10 : Int32) + x2) 161 ∧ (∀ v_7 : Int32, v_7 = (sv (((10 : Int32) + x2)).toNatClampNeg) → (vp_in ((10 : Int32) + x1) 161 ∧ ∀ f_9 : Nat → Int32, f_9 = upd sv (((10 : Int32) + x1)).toNatClampNeg v_7 → (vp_in ((10 : Int32) + x2) 161 ∧ ∀ f_11 : Nat → Int32, f_11 = upd f_9 (((10 : Int32) + x2)).toNatClampNeg v_5 → (∀ v_12 : Int32, v_12 = (x1 + (1 : Int32)) → (∀ v_13 : Int32, v_13 = ((f_11 1) - (1 : Int32)) → (∃ j_ : Nat, wp_X9_nextOrder_137  Q  j_ f_11 v_12 v_13)))))))))) ∧ (¬ ((sv (((10 : Int32) + x1)).toNatClampNeg) ≤ (sv (((10 : Int32) + x2)).toNatClampNeg)) → wp_X9_nextOrder_57  Q  n sv x1 (x2 + (-1 : Int32))))))
set_option maxHeartbeats 4000000 in
theorem wk_X9_nextOrder_57 {p : Program} {l : Launch} {e : Env} {s : State} {m : MethodId} {below : List Frame} {meth : Method} {c : Code} {args : Array Value} {G : GT} {A : Nat → Prop} (h h_s h_images h_tape h_draft h_items h_moved h_sizes h_lanes h_less h_aside h_order : Nat) (kept : Int32) (typed : Int32) (atv : Int32) (Q : Int32 → ((Nat → Int32)) → Prop)  (C : Cx p s m meth c cX9_nextOrder 6 (some .boolean) RX9 args G A)  :
    ∀ (n : Nat), ∀  (sv : Nat → Int32) (x1 : Int32) (x2 : Int32) (H : Heap) (locs : List Loc), va_P G.1 gCl [oc h 9 [.ref h_s, .ref h_images, .int kept, .ref h_tape, .int typed, .ref h_draft, .int atv, .ref h_items, .ref h_moved, .ref h_sizes, .ref h_lanes, .ref h_less, .ref h_aside, .ref h_order], ai G h_s 161 sv] H → va_D A [oc h 9 [.ref h_s, .ref h_images, .int kept, .ref h_tape, .int typed, .ref h_draft, .int atv, .ref h_items, .ref h_moved, .ref h_sizes, .ref h_lanes, .ref h_less, .ref h_aside, .ref h_order], ai G h_s 161 sv] → va_S A s.heap H locs → ∀ (ls : Array Slot), lv_has ls 6 [(0, .ref h), (1, .int x1), (2, .int x2)] → wp_X9_nextOrder_57  Q  n sv x1 x2 → W p l e ({ frames := 0, cells := 0, slots := 0, locals := 0 } : Room) s m args below meth c H locs 0 0 (MQ below (va_Qi (fun (r : Int32) (u : (Nat → Int32)) => Q r u) (fun u t => va_P G.1 gCl [oc h 9 [.ref h_s, .ref h_images, .int kept, .ref h_tape, .int typed, .ref h_draft, .int atv, .ref h_items, .ref h_moved, .ref h_sizes, .ref h_lanes, .ref h_less, .ref h_aside, .ref h_order], ai G h_s 161 u] t.heap ∧ va_D A [oc h 9 [.ref h_s, .ref h_images, .int kept, .ref h_tape, .int typed, .ref h_draft, .int atv, .ref h_items, .ref h_moved, .ref h_sizes, .ref h_lanes, .ref h_less, .ref h_aside, .ref h_order], ai G h_s 161 u]) A) args s 0 0 A) (F0 m 57 ls []) := by
  have C9 := C
  obtain ⟨hx, hb, hr, hlocks, hml, hown, hts, hK, hA⟩ := C9
  intro n
  induction n with
  | zero => intro sv x1 x2 H locs hP hD hS ls hl hw; exact False.elim hw
  | succ n ih =>
    intro sv x1 x2 H locs hP hD hS ls hl hw
    unfold wp_X9_nextOrder_57 at hw
    refine lv_aload_n hx hb dX9_nextOrder_57 rfl (lv_at hl 0 rfl) ?_
    refine va_get (D := G.1) (ci := 9) (v := .ref h_s) (C := RX9) (T := TX9) (N := 14) hx hb hts in_X9 hown hK.1 hP 0 rfl rfl 0 (by decide) (hts _ q817) (fun _ h9 => h9) rfl dX9_nextOrder_58 ?_
    refine lv_bipush (v := (10 : Int32)) hx hb dX9_nextOrder_61 (by decide) ?_
    refine lv_iload_n hx hb dX9_nextOrder_63 rfl (lv_at hl 2 rfl) ?_
    refine lv_iadd hx hb dX9_nextOrder_64 ?_
    obtain ⟨i_1, hw⟩ := hw
    refine z_iald hx hb hK.1 hP 1 0 rfl rfl i_1 dX9_nextOrder_65 (k := (((10 : Int32) + x2)).toNatClampNeg) rfl ?_
    refine lv_aload_n hx hb dX9_nextOrder_66 rfl (lv_at hl 0 rfl) ?_
    refine va_get (D := G.1) (ci := 9) (v := .ref h_s) (C := RX9) (T := TX9) (N := 14) hx hb hts in_X9 hown hK.1 hP 0 rfl rfl 0 (by decide) (hts _ q817) (fun _ h9 => h9) rfl dX9_nextOrder_67 ?_
    refine lv_bipush (v := (10 : Int32)) hx hb dX9_nextOrder_70 (by decide) ?_
    refine lv_iload_n hx hb dX9_nextOrder_72 rfl (lv_at hl 1 rfl) ?_
    refine lv_iadd hx hb dX9_nextOrder_73 ?_
    obtain ⟨i_2, hw⟩ := hw
    refine z_iald hx hb hK.1 hP 1 0 rfl rfl i_2 dX9_nextOrder_74 (k := (((10 : Int32) + x1)).toNatClampNeg) rfl ?_
    refine lv_icmp_ge (tgt := 84) hx hb dX9_nextOrder_75 (by decide) (fun c_3 => ?_) (fun c_3 => ?_)
    · replace hw := hw.1 c_3
      refine lv_aload_n hx hb dX9_nextOrder_84 rfl (lv_at hl 0 rfl) ?_
      refine va_get (D := G.1) (ci := 9) (v := .ref h_s) (C := RX9) (T := TX9) (N := 14) hx hb hts in_X9 hown hK.1 hP 0 rfl rfl 0 (by decide) (hts _ q817) (fun _ h9 => h9) rfl dX9_nextOrder_85 ?_
      refine lv_bipush (v := (10 : Int32)) hx hb dX9_nextOrder_88 (by decide) ?_
      refine lv_iload_n hx hb dX9_nextOrder_90 rfl (lv_at hl 1 rfl) ?_
      refine lv_iadd hx hb dX9_nextOrder_91 ?_
      obtain ⟨i_4, hw⟩ := hw
      refine z_iald hx hb hK.1 hP 1 0 rfl rfl i_4 dX9_nextOrder_92 (k := (((10 : Int32) + x1)).toNatClampNeg) rfl ?_
      refine lv_topi (fun v_5 ev_5 => ?_)
      replace hw := hw v_5 ev_5
      refine lv_istore_n (lv' := [(3, .int v_5), (0, .ref h), (1, .int x1), (2, .int x2)]) hx hb dX9_nextOrder_93 rfl hl (by decide) rfl (fun ls hl => ?_)
      refine lv_aload_n hx hb dX9_nextOrder_94 rfl (lv_at hl 1 rfl) ?_
      refine va_get (D := G.1) (ci := 9) (v := .ref h_s) (C := RX9) (T := TX9) (N := 14) hx hb hts in_X9 hown hK.1 hP 0 rfl rfl 0 (by decide) (hts _ q817) (fun _ h9 => h9) rfl dX9_nextOrder_95 ?_
      refine lv_bipush (v := (10 : Int32)) hx hb dX9_nextOrder_98 (by decide) ?_
      refine lv_iload_n hx hb dX9_nextOrder_100 rfl (lv_at hl 2 rfl) ?_
      refine lv_iadd hx hb dX9_nextOrder_101 ?_
      refine lv_aload_n hx hb dX9_nextOrder_102 rfl (lv_at hl 1 rfl) ?_
      refine va_get (D := G.1) (ci := 9) (v := .ref h_s) (C := RX9) (T := TX9) (N := 14) hx hb hts in_X9 hown hK.1 hP 0 rfl rfl 0 (by decide) (hts _ q817) (fun _ h9 => h9) rfl dX9_nextOrder_103 ?_
      refine lv_bipush (v := (10 : Int32)) hx hb dX9_nextOrder_106 (by decide) ?_
      refine lv_iload_n hx hb dX9_nextOrder_108 rfl (lv_at hl 3 rfl) ?_
      refine lv_iadd hx hb dX9_nextOrder_109 ?_
      obtain ⟨i_6, hw⟩ := hw
      refine z_iald hx hb hK.1 hP 1 0 rfl rfl i_6 dX9_nextOrder_110 (k := (((10 : Int32) + x2)).toNatClampNeg) rfl ?_
      refine lv_topi (fun v_7 ev_7 => ?_)
      replace hw := hw v_7 ev_7
      obtain ⟨i_8, hw⟩ := hw
      refine z_iast hx hb hK.1 hP hD hS 1 0 rfl rfl i_8 dX9_nextOrder_111 (k := (((10 : Int32) + x1)).toNatClampNeg) rfl (fun f_9 ef_9 H locs hP hD hS => ?_)
      replace hw := hw f_9 ef_9
      have hP : va_P G.1 gCl [oc h 9 [.ref h_s, .ref h_images, .int kept, .ref h_tape, .int typed, .ref h_draft, .int atv, .ref h_items, .ref h_moved, .ref h_sizes, .ref h_lanes, .ref h_less, .ref h_aside, .ref h_order], ai G h_s 161 f_9] H := hP
      have hD : va_D A [oc h 9 [.ref h_s, .ref h_images, .int kept, .ref h_tape, .int typed, .ref h_draft, .int atv, .ref h_items, .ref h_moved, .ref h_sizes, .ref h_lanes, .ref h_less, .ref h_aside, .ref h_order], ai G h_s 161 f_9] := hD
      refine lv_aload_n hx hb dX9_nextOrder_112 rfl (lv_at hl 1 rfl) ?_
      refine va_get (D := G.1) (ci := 9) (v := .ref h_s) (C := RX9) (T := TX9) (N := 14) hx hb hts in_X9 hown hK.1 hP 0 rfl rfl 0 (by decide) (hts _ q817) (fun _ h9 => h9) rfl dX9_nextOrder_113 ?_
      refine lv_bipush (v := (10 : Int32)) hx hb dX9_nextOrder_116 (by decide) ?_
      refine lv_iload_n hx hb dX9_nextOrder_118 rfl (lv_at hl 3 rfl) ?_
      refine lv_iadd hx hb dX9_nextOrder_119 ?_
      refine lv_iload_n hx hb dX9_nextOrder_120 rfl (lv_at hl 0 rfl) ?_
      obtain ⟨i_10, hw⟩ := hw
      refine z_iast hx hb hK.1 hP hD hS 1 0 rfl rfl i_10 dX9_nextOrder_121 (k := (((10 : Int32) + x2)).toNatClampNeg) rfl (fun f_11 ef_11 H locs hP hD hS => ?_)
      replace hw := hw f_11 ef_11
      have hP : va_P G.1 gCl [oc h 9 [.ref h_s, .ref h_images, .int kept, .ref h_tape, .int typed, .ref h_draft, .int atv, .ref h_items, .ref h_moved, .ref h_sizes, .ref h_lanes, .ref h_less, .ref h_aside, .ref h_order], ai G h_s 161 f_11] H := hP
      have hD : va_D A [oc h 9 [.ref h_s, .ref h_images, .int kept, .ref h_tape, .int typed, .ref h_draft, .int atv, .ref h_items, .ref h_moved, .ref h_sizes, .ref h_lanes, .ref h_less, .ref h_aside, .ref h_order], ai G h_s 161 f_11] := hD
      refine lv_iload_n hx hb dX9_nextOrder_122 rfl (lv_at hl 2 rfl) ?_
      refine lv_iconst (v := (1 : Int32)) hx hb dX9_nextOrder_123 (by decide) ?_
      refine lv_iadd hx hb dX9_nextOrder_124 ?_
      refine lv_topi (fun v_12 ev_12 => ?_)
      replace hw := hw v_12 ev_12
      refine lv_istore (lv' := [(4, .int v_12), (3, .int v_5), (0, .ref h), (1, .int x1), (2, .int x2)]) hx hb dX9_nextOrder_125 hl (by decide) rfl (fun ls hl => ?_)
      refine lv_aload_n hx hb dX9_nextOrder_127 rfl (lv_at hl 2 rfl) ?_
      refine va_get (D := G.1) (ci := 9) (v := .ref h_s) (C := RX9) (T := TX9) (N := 14) hx hb hts in_X9 hown hK.1 hP 0 rfl rfl 0 (by decide) (hts _ q817) (fun _ h9 => h9) rfl dX9_nextOrder_128 ?_
      refine lv_iconst (v := (1 : Int32)) hx hb dX9_nextOrder_131 (by decide) ?_
      refine z_iald hx hb hK.1 hP 1 0 rfl rfl (vin_l (by decide +kernel)) dX9_nextOrder_132 (k := 1) rfl ?_
      refine lv_iconst (v := (1 : Int32)) hx hb dX9_nextOrder_133 (by decide) ?_
      refine lv_isub hx hb dX9_nextOrder_134 ?_
      refine lv_topi (fun v_13 ev_13 => ?_)
      replace hw := hw v_13 ev_13
      refine lv_istore (lv' := [(5, .int v_13), (4, .int v_12), (3, .int v_5), (0, .ref h), (1, .int x1), (2, .int x2)]) hx hb dX9_nextOrder_135 hl (by decide) rfl (fun ls hl => ?_)
      obtain ⟨j_, hw⟩ := hw
      exact wk_X9_nextOrder_137 h h_s h_images h_tape h_draft h_items h_moved h_sizes h_lanes h_less h_aside h_order kept typed atv  Q  C  j_ f_11 v_12 v_13 H locs hP hD hS ls (lv_sub hl [3, 1, 0] rfl) hw
    · replace hw := hw.2 c_3
      refine lv_iinc (v := (x2 + (-1 : Int32))) (lv' := [(2, .int (x2 + (-1 : Int32))), (0, .ref h), (1, .int x1)]) hx hb dX9_nextOrder_78 hl (k := 2) rfl rfl (by decide) rfl (fun ls hl => ?_)
      refine lv_goto (tgt := 57) hx hb dX9_nextOrder_81 (by decide) ?_
      exact ih sv x1 (x2 + (-1 : Int32)) H locs hP hD hS ls (lv_sub hl [1, 2, 0] rfl) hw
def wp_X9_nextOrder_9  (Q : Int32 → ((Nat → Int32)) → Prop)  : Nat → (Nat → Int32) → Int32 → Prop
  | 0, _, _ => False
  | n + 1, sv, x1 =>
    (((x1 < 0) → (((0 ≤ x1) → (∀ v_3 : Int32, v_3 = ((sv 1) - (1 : Int32)) → (∃ j_ : Nat, wp_X9_nextOrder_57  Q  j_ sv x1 v_3))) ∧ (¬ (0 ≤ x1) → Q (0 : Int32) sv))) ∧ (¬ (x1 < 0) → (vp_in ((10 : Int32) + x1) 161 ∧ (vp_in (((10 : Int32) + x1) + (1 : Int32)) 161 ∧ ((((sv (((10 : Int32) + x1)).toNatClampNeg) ≤ (sv ((((10 : Int32) + x1) + (1 : Int32))).toNatClampNeg)) → (((0 ≤ x1) → (∀ v_8 : Int32, v_8 = ((sv 1) - (1 : Int32)) → (∃ j_ : Nat, wp_X9_nextOrder_57  Q  j_ sv x1 v_8))) ∧ (¬ (0 ≤ x1) → Q (0 : Int32) sv))) ∧ (¬ ((sv (((10 : Int32) + x1)).toNatClampNeg) ≤ (sv ((((10 : Int32) + x1) + (1 : Int32))).toNatClampNeg)) → wp_X9_nextOrder_9  Q  n sv (x1 + (-1 : Int32))))))))
set_option maxHeartbeats 4000000 in
theorem wk_X9_nextOrder_9 {p : Program} {l : Launch} {e : Env} {s : State} {m : MethodId} {below : List Frame} {meth : Method} {c : Code} {args : Array Value} {G : GT} {A : Nat → Prop} (h h_s h_images h_tape h_draft h_items h_moved h_sizes h_lanes h_less h_aside h_order : Nat) (kept : Int32) (typed : Int32) (atv : Int32) (Q : Int32 → ((Nat → Int32)) → Prop)  (C : Cx p s m meth c cX9_nextOrder 6 (some .boolean) RX9 args G A)  :
    ∀ (n : Nat), ∀  (sv : Nat → Int32) (x1 : Int32) (H : Heap) (locs : List Loc), va_P G.1 gCl [oc h 9 [.ref h_s, .ref h_images, .int kept, .ref h_tape, .int typed, .ref h_draft, .int atv, .ref h_items, .ref h_moved, .ref h_sizes, .ref h_lanes, .ref h_less, .ref h_aside, .ref h_order], ai G h_s 161 sv] H → va_D A [oc h 9 [.ref h_s, .ref h_images, .int kept, .ref h_tape, .int typed, .ref h_draft, .int atv, .ref h_items, .ref h_moved, .ref h_sizes, .ref h_lanes, .ref h_less, .ref h_aside, .ref h_order], ai G h_s 161 sv] → va_S A s.heap H locs → ∀ (ls : Array Slot), lv_has ls 6 [(0, .ref h), (1, .int x1)] → wp_X9_nextOrder_9  Q  n sv x1 → W p l e ({ frames := 0, cells := 0, slots := 0, locals := 0 } : Room) s m args below meth c H locs 0 0 (MQ below (va_Qi (fun (r : Int32) (u : (Nat → Int32)) => Q r u) (fun u t => va_P G.1 gCl [oc h 9 [.ref h_s, .ref h_images, .int kept, .ref h_tape, .int typed, .ref h_draft, .int atv, .ref h_items, .ref h_moved, .ref h_sizes, .ref h_lanes, .ref h_less, .ref h_aside, .ref h_order], ai G h_s 161 u] t.heap ∧ va_D A [oc h 9 [.ref h_s, .ref h_images, .int kept, .ref h_tape, .int typed, .ref h_draft, .int atv, .ref h_items, .ref h_moved, .ref h_sizes, .ref h_lanes, .ref h_less, .ref h_aside, .ref h_order], ai G h_s 161 u]) A) args s 0 0 A) (F0 m 9 ls []) := by
  have C9 := C
  obtain ⟨hx, hb, hr, hlocks, hml, hown, hts, hK, hA⟩ := C9
  intro n
  induction n with
  | zero => intro sv x1 H locs hP hD hS ls hl hw; exact False.elim hw
  | succ n ih =>
    intro sv x1 H locs hP hD hS ls hl hw
    unfold wp_X9_nextOrder_9 at hw
    refine lv_iload_n hx hb dX9_nextOrder_9 rfl (lv_at hl 1 rfl) ?_
    refine lv_if_lt (tgt := 42) hx hb dX9_nextOrder_10 (by decide) (fun c_1 => ?_) (fun c_1 => ?_)
    · replace hw := hw.1 c_1
      refine lv_iload_n hx hb dX9_nextOrder_42 rfl (lv_at hl 1 rfl) ?_
      refine lv_if_ge (tgt := 48) hx hb dX9_nextOrder_43 (by decide) (fun c_2 => ?_) (fun c_2 => ?_)
      · replace hw := hw.1 c_2
        refine lv_aload_n hx hb dX9_nextOrder_48 rfl (lv_at hl 0 rfl) ?_
        refine va_get (D := G.1) (ci := 9) (v := .ref h_s) (C := RX9) (T := TX9) (N := 14) hx hb hts in_X9 hown hK.1 hP 0 rfl rfl 0 (by decide) (hts _ q817) (fun _ h9 => h9) rfl dX9_nextOrder_49 ?_
        refine lv_iconst (v := (1 : Int32)) hx hb dX9_nextOrder_52 (by decide) ?_
        refine z_iald hx hb hK.1 hP 1 0 rfl rfl (vin_l (by decide +kernel)) dX9_nextOrder_53 (k := 1) rfl ?_
        refine lv_iconst (v := (1 : Int32)) hx hb dX9_nextOrder_54 (by decide) ?_
        refine lv_isub hx hb dX9_nextOrder_55 ?_
        refine lv_topi (fun v_3 ev_3 => ?_)
        replace hw := hw v_3 ev_3
        refine lv_istore_n (lv' := [(2, .int v_3), (0, .ref h), (1, .int x1)]) hx hb dX9_nextOrder_56 rfl hl (by decide) rfl (fun ls hl => ?_)
        obtain ⟨j_, hw⟩ := hw
        exact wk_X9_nextOrder_57 h h_s h_images h_tape h_draft h_items h_moved h_sizes h_lanes h_less h_aside h_order kept typed atv  Q  C  j_ sv x1 v_3 H locs hP hD hS ls (lv_sub hl [1, 2, 0] rfl) hw
      · replace hw := hw.2 c_2
        refine lv_iconst (v := (0 : Int32)) hx hb dX9_nextOrder_46 (by decide) ?_
        have hP9 := hP
        have hD9 := hD
        exact W.zret (v := (0 : Int32)) hx hb hr rfl (fun t ht hW => ⟨⟨(0 : Int32), sv, rfl, hw, by rw [ht]; exact hP9, hD9⟩, hS.F ht⟩) hS.2.2 dX9_nextOrder_47
    · replace hw := hw.2 c_1
      refine lv_aload_n hx hb dX9_nextOrder_13 rfl (lv_at hl 0 rfl) ?_
      refine va_get (D := G.1) (ci := 9) (v := .ref h_s) (C := RX9) (T := TX9) (N := 14) hx hb hts in_X9 hown hK.1 hP 0 rfl rfl 0 (by decide) (hts _ q817) (fun _ h9 => h9) rfl dX9_nextOrder_14 ?_
      refine lv_bipush (v := (10 : Int32)) hx hb dX9_nextOrder_17 (by decide) ?_
      refine lv_iload_n hx hb dX9_nextOrder_19 rfl (lv_at hl 1 rfl) ?_
      refine lv_iadd hx hb dX9_nextOrder_20 ?_
      obtain ⟨i_4, hw⟩ := hw
      refine z_iald hx hb hK.1 hP 1 0 rfl rfl i_4 dX9_nextOrder_21 (k := (((10 : Int32) + x1)).toNatClampNeg) rfl ?_
      refine lv_aload_n hx hb dX9_nextOrder_22 rfl (lv_at hl 0 rfl) ?_
      refine va_get (D := G.1) (ci := 9) (v := .ref h_s) (C := RX9) (T := TX9) (N := 14) hx hb hts in_X9 hown hK.1 hP 0 rfl rfl 0 (by decide) (hts _ q817) (fun _ h9 => h9) rfl dX9_nextOrder_23 ?_
      refine lv_bipush (v := (10 : Int32)) hx hb dX9_nextOrder_26 (by decide) ?_
      refine lv_iload_n hx hb dX9_nextOrder_28 rfl (lv_at hl 1 rfl) ?_
      refine lv_iadd hx hb dX9_nextOrder_29 ?_
      refine lv_iconst (v := (1 : Int32)) hx hb dX9_nextOrder_30 (by decide) ?_
      refine lv_iadd hx hb dX9_nextOrder_31 ?_
      obtain ⟨i_5, hw⟩ := hw
      refine z_iald hx hb hK.1 hP 1 0 rfl rfl i_5 dX9_nextOrder_32 (k := ((((10 : Int32) + x1) + (1 : Int32))).toNatClampNeg) rfl ?_
      refine lv_icmp_le (tgt := 42) hx hb dX9_nextOrder_33 (by decide) (fun c_6 => ?_) (fun c_6 => ?_)
      · replace hw := hw.1 c_6
        refine lv_iload_n hx hb dX9_nextOrder_42 rfl (lv_at hl 1 rfl) ?_
        refine lv_if_ge (tgt := 48) hx hb dX9_nextOrder_43 (by decide) (fun c_7 => ?_) (fun c_7 => ?_)
        · replace hw := hw.1 c_7
          refine lv_aload_n hx hb dX9_nextOrder_48 rfl (lv_at hl 0 rfl) ?_
          refine va_get (D := G.1) (ci := 9) (v := .ref h_s) (C := RX9) (T := TX9) (N := 14) hx hb hts in_X9 hown hK.1 hP 0 rfl rfl 0 (by decide) (hts _ q817) (fun _ h9 => h9) rfl dX9_nextOrder_49 ?_
          refine lv_iconst (v := (1 : Int32)) hx hb dX9_nextOrder_52 (by decide) ?_
          refine z_iald hx hb hK.1 hP 1 0 rfl rfl (vin_l (by decide +kernel)) dX9_nextOrder_53 (k := 1) rfl ?_
          refine lv_iconst (v := (1 : Int32)) hx hb dX9_nextOrder_54 (by decide) ?_
          refine lv_isub hx hb dX9_nextOrder_55 ?_
          refine lv_topi (fun v_8 ev_8 => ?_)
          replace hw := hw v_8 ev_8
          refine lv_istore_n (lv' := [(2, .int v_8), (0, .ref h), (1, .int x1)]) hx hb dX9_nextOrder_56 rfl hl (by decide) rfl (fun ls hl => ?_)
          obtain ⟨j_, hw⟩ := hw
          exact wk_X9_nextOrder_57 h h_s h_images h_tape h_draft h_items h_moved h_sizes h_lanes h_less h_aside h_order kept typed atv  Q  C  j_ sv x1 v_8 H locs hP hD hS ls (lv_sub hl [1, 2, 0] rfl) hw
        · replace hw := hw.2 c_7
          refine lv_iconst (v := (0 : Int32)) hx hb dX9_nextOrder_46 (by decide) ?_
          have hP9 := hP
          have hD9 := hD
          exact W.zret (v := (0 : Int32)) hx hb hr rfl (fun t ht hW => ⟨⟨(0 : Int32), sv, rfl, hw, by rw [ht]; exact hP9, hD9⟩, hS.F ht⟩) hS.2.2 dX9_nextOrder_47
      · replace hw := hw.2 c_6
        refine lv_iinc (v := (x1 + (-1 : Int32))) (lv' := [(1, .int (x1 + (-1 : Int32))), (0, .ref h)]) hx hb dX9_nextOrder_36 hl (k := 1) rfl rfl (by decide) rfl (fun ls hl => ?_)
        refine lv_goto (tgt := 9) hx hb dX9_nextOrder_39 (by decide) ?_
        exact ih sv (x1 + (-1 : Int32)) H locs hP hD hS ls (lv_sub hl [1, 0] rfl) hw
def wp_X9_nextOrder (sv : Nat → Int32) (Q : Int32 → ((Nat → Int32)) → Prop) : Prop :=
  (∀ v_1 : Int32, v_1 = ((sv 1) - (2 : Int32)) → (∃ j_ : Nat, wp_X9_nextOrder_9  Q  j_ sv v_1))
set_option maxHeartbeats 4000000 in
theorem mt_X9_nextOrder (l : Launch) (G : GT) (h h_s h_images h_tape h_draft h_items h_moved h_sizes h_lanes h_less h_aside h_order : Nat) (sz : Nat) (kept : Int32) (typed : Int32) (atv : Int32) (sv : Nat → Int32) (Q : Int32 → ((Nat → Int32)) → Prop) (hw : wp_X9_nextOrder sv Q) : Met l yX9_nextOrder (ws_ yX9_nextOrder cX9_nextOrder 6 (some .boolean)) ({ frames := 0, cells := 0, slots := 0, locals := 0 } : Room) (va_Pc [.ref h] (fun U => U.heap.size = sz ∧ va_P G.1 gCl [oc h 9 [.ref h_s, .ref h_images, .int kept, .ref h_tape, .int typed, .ref h_draft, .int atv, .ref h_items, .ref h_moved, .ref h_sizes, .ref h_lanes, .ref h_less, .ref h_aside, .ref h_order], ai G h_s 161 sv] U.heap ∧ gK G U ∧ va_D (fun _ => True) [oc h 9 [.ref h_s, .ref h_images, .int kept, .ref h_tape, .int typed, .ref h_draft, .int atv, .ref h_items, .ref h_moved, .ref h_sizes, .ref h_lanes, .ref h_less, .ref h_aside, .ref h_order], ai G h_s 161 sv])) ((fun A => (va_Qi (fun (r : Int32) (u : (Nat → Int32)) => Q r u) (fun u t => va_P G.1 gCl [oc h 9 [.ref h_s, .ref h_images, .int kept, .ref h_tape, .int typed, .ref h_draft, .int atv, .ref h_items, .ref h_moved, .ref h_sizes, .ref h_lanes, .ref h_less, .ref h_aside, .ref h_order], ai G h_s 161 u] t.heap ∧ va_D A [oc h 9 [.ref h_s, .ref h_images, .int kept, .ref h_tape, .int typed, .ref h_draft, .int atv, .ref h_items, .ref h_moved, .ref h_sizes, .ref h_lanes, .ref h_less, .ref h_aside, .ref h_order], ai G h_s 161 u]) A)) (va_A [oc h 9 [.ref h_s, .ref h_images, .int kept, .ref h_tape, .int typed, .ref h_draft, .int atv, .ref h_items, .ref h_moved, .ref h_sizes, .ref h_lanes, .ref h_less, .ref h_aside, .ref h_order], ai G h_s 161 sv] sz)) 0 0 (va_A [oc h 9 [.ref h_s, .ref h_images, .int kept, .ref h_tape, .int typed, .ref h_draft, .int atv, .ref h_items, .ref h_moved, .ref h_sizes, .ref h_lanes, .ref h_less, .ref h_aside, .ref h_order], ai G h_s 161 sv] sz) := by
  refine Met.ofW (cc := cX9_nextOrder) (maxL := 6) (ret := (some .boolean)) (by decide) rfl ?_
  intro p e s m args below meth c s₁ B hml hv
  obtain ⟨rfl, hsz, hP, hK, hD0⟩ := hv
  have hx := B.exec
  have hb := B.bytes
  have hr := B.returns
  have hts := atoms_spec (ws := (ws_ yX9_nextOrder cX9_nextOrder 6 (some .boolean))) B.pre
  have hts : ∀ w ∈ lw_all, w.before _ s = true := fun w h => hts w (List.mem_cons_of_mem _ h)
  have hown : s.vm.findClass RX9 = some m.cls := findClass_of_methodNamed B.named
  have hlocks := B.notSynchronized
  subst hsz
  have hD := hD0.self (sz := s.heap.size)
  generalize hAe : va_A [oc h 9 [.ref h_s, .ref h_images, .int kept, .ref h_tape, .int typed, .ref h_draft, .int atv, .ref h_items, .ref h_moved, .ref h_sizes, .ref h_lanes, .ref h_less, .ref h_aside, .ref h_order], ai G h_s 161 sv] s.heap.size = A at hD ⊢
  have hA : ∀ q : Nat, s.heap.size ≤ q → A q := fun q h => by rw [← hAe]; exact Or.inr h
  have hS : va_S A s.heap s.heap [] := va_S.rf
  have C : Cx p s m meth c cX9_nextOrder 6 (some .boolean) RX9 ([.ref h] : List Value).toArray G A := ⟨hx, hb, hr, hlocks, hml, hown, hts, hK, hA⟩
  have hl := lv_entry ([.ref h]) (n := 6) (Nat.le_of_ble_eq_true rfl)
  rw [lg_entry_eq]
  generalize (lg_sl ([.ref h]) ++ List.replicate (6 - (lg_sl ([.ref h])).length) Slot.unset).toArray = ls at hl ⊢
  have hl : lv_has ls 6 [(0, .ref h)] := hl
  unfold wp_X9_nextOrder at hw
  refine lv_aload_n hx hb dX9_nextOrder_0 rfl (lv_at hl 0 rfl) ?_
  refine va_get (D := G.1) (ci := 9) (v := .ref h_s) (C := RX9) (T := TX9) (N := 14) hx hb hts in_X9 hown hK.1 hP 0 rfl rfl 0 (by decide) (hts _ q817) (fun _ h9 => h9) rfl dX9_nextOrder_1 ?_
  refine lv_iconst (v := (1 : Int32)) hx hb dX9_nextOrder_4 (by decide) ?_
  refine z_iald hx hb hK.1 hP 1 0 rfl rfl (vin_l (by decide +kernel)) dX9_nextOrder_5 (k := 1) rfl ?_
  refine lv_iconst (v := (2 : Int32)) hx hb dX9_nextOrder_6 (by decide) ?_
  refine lv_isub hx hb dX9_nextOrder_7 ?_
  refine lv_topi (fun v_1 ev_1 => ?_)
  replace hw := hw v_1 ev_1
  refine lv_istore_n (lv' := [(1, .int v_1), (0, .ref h)]) hx hb dX9_nextOrder_8 rfl hl (by decide) rfl (fun ls hl => ?_)
  obtain ⟨j_, hw⟩ := hw
  exact wk_X9_nextOrder_9 h h_s h_images h_tape h_draft h_items h_moved h_sizes h_lanes h_less h_aside h_order kept typed atv  Q  C  j_ sv v_1 s.heap [] hP hD hS ls (lv_sub hl [1, 0] rfl) hw
/-! BattleBenchModel.ways()I -/
def wp_X9_ways_12  (Q : Int32 → ((Nat → Int32) × (Nat → Int32)) → Prop)  : Nat → (Nat → Int32) → (Nat → Int32) → Int32 → Int32 → Prop
  | 0, _, _, _, _ => False
  | n + 1, sv, aside, x1, x2 =>
    (((x2 = 0) → wp_X9_lets sv aside  (fun u_2 => Q x1 (u_2, aside))) ∧ (¬ (x2 = 0) → wp_X9_wrong sv  (fun r_3 => ((¬ (r_3 = 0) → (∀ v_5 : Int32, v_5 = (x1 + (0 : Int32)) → wp_X9_nextOrder sv  (fun r_6 u_7 => wp_X9_ways_12  Q  n u_7 aside v_5 r_6))) ∧ ((r_3 = 0) → (∀ v_8 : Int32, v_8 = (x1 + (1 : Int32)) → wp_X9_nextOrder sv  (fun r_9 u_10 => wp_X9_ways_12  Q  n u_10 aside v_8 r_9)))))))
set_option maxHeartbeats 4000000 in
theorem wk_X9_ways_12 {p : Program} {l : Launch} {e : Env} {s : State} {m : MethodId} {below : List Frame} {meth : Method} {c : Code} {args : Array Value} {G : GT} {A : Nat → Prop} (h h_s h_images h_tape h_draft h_items h_moved h_sizes h_lanes h_less h_aside h_order : Nat) (kept : Int32) (typed : Int32) (atv : Int32) (Q : Int32 → ((Nat → Int32) × (Nat → Int32)) → Prop)  (C : Cx p s m meth c cX9_ways 3 (some .int) RX9 args G A)  :
    ∀ (n : Nat), ∀  (sv : Nat → Int32) (aside : Nat → Int32) (x1 : Int32) (x2 : Int32) (H : Heap) (locs : List Loc), va_P G.1 gCl [oc h 9 [.ref h_s, .ref h_images, .int kept, .ref h_tape, .int typed, .ref h_draft, .int atv, .ref h_items, .ref h_moved, .ref h_sizes, .ref h_lanes, .ref h_less, .ref h_aside, .ref h_order], ai G h_s 161 sv, ai G h_aside 40 aside] H → va_D A [oc h 9 [.ref h_s, .ref h_images, .int kept, .ref h_tape, .int typed, .ref h_draft, .int atv, .ref h_items, .ref h_moved, .ref h_sizes, .ref h_lanes, .ref h_less, .ref h_aside, .ref h_order], ai G h_s 161 sv, ai G h_aside 40 aside] → va_S A s.heap H locs → ∀ (ls : Array Slot), lv_has ls 3 [(0, .ref h), (1, .int x1), (2, .int x2)] → wp_X9_ways_12  Q  n sv aside x1 x2 → W p l e ({ frames := 2, cells := 0, slots := 0, locals := 51 } : Room) s m args below meth c H locs 0 0 (MQ below (va_Qi (fun (r : Int32) (u : (Nat → Int32) × (Nat → Int32)) => Q r u) (fun u t => va_P G.1 gCl [oc h 9 [.ref h_s, .ref h_images, .int kept, .ref h_tape, .int typed, .ref h_draft, .int atv, .ref h_items, .ref h_moved, .ref h_sizes, .ref h_lanes, .ref h_less, .ref h_aside, .ref h_order], ai G h_s 161 u.1, ai G h_aside 40 u.2] t.heap ∧ va_D A [oc h 9 [.ref h_s, .ref h_images, .int kept, .ref h_tape, .int typed, .ref h_draft, .int atv, .ref h_items, .ref h_moved, .ref h_sizes, .ref h_lanes, .ref h_less, .ref h_aside, .ref h_order], ai G h_s 161 u.1, ai G h_aside 40 u.2]) A) args s 0 0 A) (F0 m 12 ls []) := by
  have C9 := C
  obtain ⟨hx, hb, hr, hlocks, hml, hown, hts, hK, hA⟩ := C9
  intro n
  induction n with
  | zero => intro sv aside x1 x2 H locs hP hD hS ls hl hw; exact False.elim hw
  | succ n ih =>
    intro sv aside x1 x2 H locs hP hD hS ls hl hw
    unfold wp_X9_ways_12 at hw
    refine lv_iload_n hx hb dX9_ways_12 rfl (lv_at hl 2 rfl) ?_
    refine lv_if_eq (tgt := 39) hx hb dX9_ways_13 (by decide) (fun c_1 => ?_) (fun c_1 => ?_)
    · replace hw := hw.1 c_1
      refine lv_aload_n hx hb dX9_ways_39 rfl (lv_at hl 0 rfl) ?_
      have hPc := hP.sub (ws' := [oc h 9 [.ref h_s, .ref h_images, .int kept, .ref h_tape, .int typed, .ref h_draft, .int atv, .ref h_items, .ref h_moved, .ref h_sizes, .ref h_lanes, .ref h_less, .ref h_aside, .ref h_order], ai G h_s 161 sv, ai G h_aside 40 aside]) [0, 1, 2] rfl
      have hDc := hD.sub (ws' := [oc h 9 [.ref h_s, .ref h_images, .int kept, .ref h_tape, .int typed, .ref h_draft, .int atv, .ref h_items, .ref h_moved, .ref h_sizes, .ref h_lanes, .ref h_less, .ref h_aside, .ref h_order], ai G h_s 161 sv, ai G h_aside 40 aside]) [0, 1, 2] (by decide) rfl
      have hFc := va_free (wc := [oc h 9 [.ref h_s, .ref h_images, .int kept, .ref h_tape, .int typed, .ref h_draft, .int atv, .ref h_items, .ref h_moved, .ref h_sizes, .ref h_lanes, .ref h_less, .ref h_aside, .ref h_order], ai G h_s 161 sv, ai G h_aside 40 aside]) hD hS hA [0, 1, 2] rfl
      refine va_callv (va_runV (As := []) (rest := []) ⟨hx, hb, hml, hown, hts⟩ (mt_X9_lets l G h h_s h_images h_tape h_draft h_items h_moved h_sizes h_lanes h_less h_aside h_order H.size kept typed atv sv aside  _ hw) (cwV 0 hts (lw_V q1014 q1016 qs46 q65 q1017) rfl rfl rfl (by decide +kernel) ⟨Nat.le_of_ble_eq_true rfl, Nat.le_of_ble_eq_true rfl⟩) ⟨fun a U g mk q => by obtain ⟨q0, q1, qP, qK, qD⟩ := q; exact ⟨q0, q1, qP, qK.call, qD⟩, va_recv hK.1 hP (ci := 9) (q0 := 0) rfl rfl, fun U hU hW => ⟨rfl, by rw [hU], by rw [hU]; exact hPc, hK.warm hW, hDc.weaken (fun _ _ _ _ => trivial)⟩⟩ rfl rfl hl.1 rfl (lv_room (Nat.le_of_ble_eq_true rfl)) dX9_ways_40 ⟨Nat.le_of_ble_eq_true rfl, Nat.le_of_ble_eq_true rfl⟩) hS (fun q _ h => hFc q h) hFc (fun u_2 t H1 locs ht hvm hw hB hz1 hk1 hS => ?_)
      obtain ⟨hP1, hD1⟩ := hB
      rw [ht] at hP1
      obtain ⟨hP, hD⟩ := va_join (wr := []) (w1 := [oc h 9 [.ref h_s, .ref h_images, .int kept, .ref h_tape, .int typed, .ref h_draft, .int atv, .ref h_items, .ref h_moved, .ref h_sizes, .ref h_lanes, .ref h_less, .ref h_aside, .ref h_order], ai G h_s 161 u_2, ai G h_aside 40 aside]) hP hD [0, 1, 2] [] rfl rfl (by decide) (by decide) hk1 hFc hP1 hD1
      clear hPc hDc hFc hP1 hD1 hz1 hk1 hvm
      generalize H1 = H at hP hS ⊢
      have hP : va_P G.1 gCl [oc h 9 [.ref h_s, .ref h_images, .int kept, .ref h_tape, .int typed, .ref h_draft, .int atv, .ref h_items, .ref h_moved, .ref h_sizes, .ref h_lanes, .ref h_less, .ref h_aside, .ref h_order], ai G h_s 161 u_2, ai G h_aside 40 aside] H := hP
      have hD : va_D A [oc h 9 [.ref h_s, .ref h_images, .int kept, .ref h_tape, .int typed, .ref h_draft, .int atv, .ref h_items, .ref h_moved, .ref h_sizes, .ref h_lanes, .ref h_less, .ref h_aside, .ref h_order], ai G h_s 161 u_2, ai G h_aside 40 aside] := hD
      refine lv_iload_n hx hb dX9_ways_43 rfl (lv_at hl 1 rfl) ?_
      have hP9 := hP
      have hD9 := hD
      exact W.iret (v := x1) hx hb hr (fun t ht hW => ⟨⟨x1, (u_2, aside), rfl, hw, by rw [ht]; exact hP9, hD9⟩, hS.F ht⟩) hS.2.2 dX9_ways_44
    · replace hw := hw.2 c_1
      refine lv_iload_n hx hb dX9_ways_16 rfl (lv_at hl 1 rfl) ?_
      refine lv_aload_n hx hb dX9_ways_17 rfl (lv_at hl 0 rfl) ?_
      have hPc := hP.sub (ws' := [oc h 9 [.ref h_s, .ref h_images, .int kept, .ref h_tape, .int typed, .ref h_draft, .int atv, .ref h_items, .ref h_moved, .ref h_sizes, .ref h_lanes, .ref h_less, .ref h_aside, .ref h_order], ai G h_s 161 sv]) [0, 1] rfl
      have hDc := hD.sub (ws' := [oc h 9 [.ref h_s, .ref h_images, .int kept, .ref h_tape, .int typed, .ref h_draft, .int atv, .ref h_items, .ref h_moved, .ref h_sizes, .ref h_lanes, .ref h_less, .ref h_aside, .ref h_order], ai G h_s 161 sv]) [0, 1] (by decide) rfl
      have hFc := va_free (wc := [oc h 9 [.ref h_s, .ref h_images, .int kept, .ref h_tape, .int typed, .ref h_draft, .int atv, .ref h_items, .ref h_moved, .ref h_sizes, .ref h_lanes, .ref h_less, .ref h_aside, .ref h_order], ai G h_s 161 sv]) hD hS hA [0, 1] rfl
      refine va_calli (va_runV (As := []) (rest := [.int x1]) ⟨hx, hb, hml, hown, hts⟩ (mt_X9_wrong l G h h_s h_images h_tape h_draft h_items h_moved h_sizes h_lanes h_less h_aside h_order H.size kept typed atv sv  _ hw) (cwV 0 hts (lw_V q960 q962 qs41 q65 q963) rfl rfl rfl (by decide +kernel) ⟨Nat.le_of_ble_eq_true rfl, Nat.le_of_ble_eq_true rfl⟩) ⟨fun a U g mk q => by obtain ⟨q0, q1, qP, qK, qD⟩ := q; exact ⟨q0, q1, qP, qK.call, qD⟩, va_recv hK.1 hP (ci := 9) (q0 := 0) rfl rfl, fun U hU hW => ⟨rfl, by rw [hU], by rw [hU]; exact hPc, hK.warm hW, hDc.weaken (fun _ _ _ _ => trivial)⟩⟩ rfl rfl hl.1 rfl (lv_room (Nat.le_of_ble_eq_true rfl)) dX9_ways_18 ⟨Nat.le_of_ble_eq_true rfl, Nat.le_of_ble_eq_true rfl⟩) hS (fun q _ h => hFc q h) hFc (fun r_3 _ t H1 locs ht hvm hw hB hz1 hk1 hS => ?_)
      obtain ⟨hP1, hD1⟩ := hB
      rw [ht] at hP1
      obtain ⟨hP, hD⟩ := va_join (wr := [ai G h_aside 40 aside]) (w1 := [oc h 9 [.ref h_s, .ref h_images, .int kept, .ref h_tape, .int typed, .ref h_draft, .int atv, .ref h_items, .ref h_moved, .ref h_sizes, .ref h_lanes, .ref h_less, .ref h_aside, .ref h_order], ai G h_s 161 sv]) hP hD [0, 1] [2] rfl rfl (by decide) (by decide) hk1 hFc hP1 hD1
      clear hPc hDc hFc hP1 hD1 hz1 hk1 hvm
      generalize H1 = H at hP hS ⊢
      have hP : va_P G.1 gCl [ai G h_aside 40 aside, oc h 9 [.ref h_s, .ref h_images, .int kept, .ref h_tape, .int typed, .ref h_draft, .int atv, .ref h_items, .ref h_moved, .ref h_sizes, .ref h_lanes, .ref h_less, .ref h_aside, .ref h_order], ai G h_s 161 sv] H := hP
      have hD : va_D A [ai G h_aside 40 aside, oc h 9 [.ref h_s, .ref h_images, .int kept, .ref h_tape, .int typed, .ref h_draft, .int atv, .ref h_items, .ref h_moved, .ref h_sizes, .ref h_lanes, .ref h_less, .ref h_aside, .ref h_order], ai G h_s 161 sv] := hD
      refine lv_if_ne (tgt := 28) hx hb dX9_ways_21 (by decide) (fun c_4 => ?_) (fun c_4 => ?_)
      · replace hw := hw.1 c_4
        refine lv_iconst (v := (0 : Int32)) hx hb dX9_ways_28 (by decide) ?_
        refine lv_iadd hx hb dX9_ways_29 ?_
        refine lv_topi (fun v_5 ev_5 => ?_)
        replace hw := hw v_5 ev_5
        refine lv_istore_n (lv' := [(1, .int v_5), (0, .ref h), (2, .int x2)]) hx hb dX9_ways_30 rfl hl (by decide) rfl (fun ls hl => ?_)
        refine lv_aload_n hx hb dX9_ways_31 rfl (lv_at hl 1 rfl) ?_
        have hPc := hP.sub (ws' := [oc h 9 [.ref h_s, .ref h_images, .int kept, .ref h_tape, .int typed, .ref h_draft, .int atv, .ref h_items, .ref h_moved, .ref h_sizes, .ref h_lanes, .ref h_less, .ref h_aside, .ref h_order], ai G h_s 161 sv]) [1, 2] rfl
        have hDc := hD.sub (ws' := [oc h 9 [.ref h_s, .ref h_images, .int kept, .ref h_tape, .int typed, .ref h_draft, .int atv, .ref h_items, .ref h_moved, .ref h_sizes, .ref h_lanes, .ref h_less, .ref h_aside, .ref h_order], ai G h_s 161 sv]) [1, 2] (by decide) rfl
        have hFc := va_free (wc := [oc h 9 [.ref h_s, .ref h_images, .int kept, .ref h_tape, .int typed, .ref h_draft, .int atv, .ref h_items, .ref h_moved, .ref h_sizes, .ref h_lanes, .ref h_less, .ref h_aside, .ref h_order], ai G h_s 161 sv]) hD hS hA [1, 2] rfl
        refine va_calli (va_runV (As := []) (rest := []) ⟨hx, hb, hml, hown, hts⟩ (mt_X9_nextOrder l G h h_s h_images h_tape h_draft h_items h_moved h_sizes h_lanes h_less h_aside h_order H.size kept typed atv sv  _ hw) (cwV 0 hts (lw_V q1061 q1063 qs50 q65 q1064) rfl rfl rfl (by decide +kernel) ⟨Nat.le_of_ble_eq_true rfl, Nat.le_of_ble_eq_true rfl⟩) ⟨fun a U g mk q => by obtain ⟨q0, q1, qP, qK, qD⟩ := q; exact ⟨q0, q1, qP, qK.call, qD⟩, va_recv hK.1 hP (ci := 9) (q0 := 1) rfl rfl, fun U hU hW => ⟨rfl, by rw [hU], by rw [hU]; exact hPc, hK.warm hW, hDc.weaken (fun _ _ _ _ => trivial)⟩⟩ rfl rfl hl.1 rfl (lv_room (Nat.le_of_ble_eq_true rfl)) dX9_ways_32 ⟨Nat.le_of_ble_eq_true rfl, Nat.le_of_ble_eq_true rfl⟩) hS (fun q _ h => hFc q h) hFc (fun r_6 u_7 t H1 locs ht hvm hw hB hz1 hk1 hS => ?_)
        obtain ⟨hP1, hD1⟩ := hB
        rw [ht] at hP1
        obtain ⟨hP, hD⟩ := va_join (wr := [ai G h_aside 40 aside]) (w1 := [oc h 9 [.ref h_s, .ref h_images, .int kept, .ref h_tape, .int typed, .ref h_draft, .int atv, .ref h_items, .ref h_moved, .ref h_sizes, .ref h_lanes, .ref h_less, .ref h_aside, .ref h_order], ai G h_s 161 u_7]) hP hD [1, 2] [0] rfl rfl (by decide) (by decide) hk1 hFc hP1 hD1
        clear hPc hDc hFc hP1 hD1 hz1 hk1 hvm
        generalize H1 = H at hP hS ⊢
        have hP : va_P G.1 gCl [ai G h_aside 40 aside, oc h 9 [.ref h_s, .ref h_images, .int kept, .ref h_tape, .int typed, .ref h_draft, .int atv, .ref h_items, .ref h_moved, .ref h_sizes, .ref h_lanes, .ref h_less, .ref h_aside, .ref h_order], ai G h_s 161 u_7] H := hP
        have hD : va_D A [ai G h_aside 40 aside, oc h 9 [.ref h_s, .ref h_images, .int kept, .ref h_tape, .int typed, .ref h_draft, .int atv, .ref h_items, .ref h_moved, .ref h_sizes, .ref h_lanes, .ref h_less, .ref h_aside, .ref h_order], ai G h_s 161 u_7] := hD
        refine lv_istore_n (lv' := [(2, .int r_6), (1, .int v_5), (0, .ref h)]) hx hb dX9_ways_35 rfl hl (by decide) rfl (fun ls hl => ?_)
        refine lv_goto (tgt := 12) hx hb dX9_ways_36 (by decide) ?_
        exact ih u_7 aside v_5 r_6 H locs (hP.sub [1, 2, 0] rfl) (hD.sub [1, 2, 0] (by decide) rfl) hS ls (lv_sub hl [2, 1, 0] rfl) hw
      · replace hw := hw.2 c_4
        refine lv_iconst (v := (1 : Int32)) hx hb dX9_ways_24 (by decide) ?_
        refine lv_goto (tgt := 29) hx hb dX9_ways_25 (by decide) ?_
        refine lv_iadd hx hb dX9_ways_29 ?_
        refine lv_topi (fun v_8 ev_8 => ?_)
        replace hw := hw v_8 ev_8
        refine lv_istore_n (lv' := [(1, .int v_8), (0, .ref h), (2, .int x2)]) hx hb dX9_ways_30 rfl hl (by decide) rfl (fun ls hl => ?_)
        refine lv_aload_n hx hb dX9_ways_31 rfl (lv_at hl 1 rfl) ?_
        have hPc := hP.sub (ws' := [oc h 9 [.ref h_s, .ref h_images, .int kept, .ref h_tape, .int typed, .ref h_draft, .int atv, .ref h_items, .ref h_moved, .ref h_sizes, .ref h_lanes, .ref h_less, .ref h_aside, .ref h_order], ai G h_s 161 sv]) [1, 2] rfl
        have hDc := hD.sub (ws' := [oc h 9 [.ref h_s, .ref h_images, .int kept, .ref h_tape, .int typed, .ref h_draft, .int atv, .ref h_items, .ref h_moved, .ref h_sizes, .ref h_lanes, .ref h_less, .ref h_aside, .ref h_order], ai G h_s 161 sv]) [1, 2] (by decide) rfl
        have hFc := va_free (wc := [oc h 9 [.ref h_s, .ref h_images, .int kept, .ref h_tape, .int typed, .ref h_draft, .int atv, .ref h_items, .ref h_moved, .ref h_sizes, .ref h_lanes, .ref h_less, .ref h_aside, .ref h_order], ai G h_s 161 sv]) hD hS hA [1, 2] rfl
        refine va_calli (va_runV (As := []) (rest := []) ⟨hx, hb, hml, hown, hts⟩ (mt_X9_nextOrder l G h h_s h_images h_tape h_draft h_items h_moved h_sizes h_lanes h_less h_aside h_order H.size kept typed atv sv  _ hw) (cwV 0 hts (lw_V q1061 q1063 qs50 q65 q1064) rfl rfl rfl (by decide +kernel) ⟨Nat.le_of_ble_eq_true rfl, Nat.le_of_ble_eq_true rfl⟩) ⟨fun a U g mk q => by obtain ⟨q0, q1, qP, qK, qD⟩ := q; exact ⟨q0, q1, qP, qK.call, qD⟩, va_recv hK.1 hP (ci := 9) (q0 := 1) rfl rfl, fun U hU hW => ⟨rfl, by rw [hU], by rw [hU]; exact hPc, hK.warm hW, hDc.weaken (fun _ _ _ _ => trivial)⟩⟩ rfl rfl hl.1 rfl (lv_room (Nat.le_of_ble_eq_true rfl)) dX9_ways_32 ⟨Nat.le_of_ble_eq_true rfl, Nat.le_of_ble_eq_true rfl⟩) hS (fun q _ h => hFc q h) hFc (fun r_9 u_10 t H1 locs ht hvm hw hB hz1 hk1 hS => ?_)
        obtain ⟨hP1, hD1⟩ := hB
        rw [ht] at hP1
        obtain ⟨hP, hD⟩ := va_join (wr := [ai G h_aside 40 aside]) (w1 := [oc h 9 [.ref h_s, .ref h_images, .int kept, .ref h_tape, .int typed, .ref h_draft, .int atv, .ref h_items, .ref h_moved, .ref h_sizes, .ref h_lanes, .ref h_less, .ref h_aside, .ref h_order], ai G h_s 161 u_10]) hP hD [1, 2] [0] rfl rfl (by decide) (by decide) hk1 hFc hP1 hD1
        clear hPc hDc hFc hP1 hD1 hz1 hk1 hvm
        generalize H1 = H at hP hS ⊢
        have hP : va_P G.1 gCl [ai G h_aside 40 aside, oc h 9 [.ref h_s, .ref h_images, .int kept, .ref h_tape, .int typed, .ref h_draft, .int atv, .ref h_items, .ref h_moved, .ref h_sizes, .ref h_lanes, .ref h_less, .ref h_aside, .ref h_order], ai G h_s 161 u_10] H := hP
        have hD : va_D A [ai G h_aside 40 aside, oc h 9 [.ref h_s, .ref h_images, .int kept, .ref h_tape, .int typed, .ref h_draft, .int atv, .ref h_items, .ref h_moved, .ref h_sizes, .ref h_lanes, .ref h_less, .ref h_aside, .ref h_order], ai G h_s 161 u_10] := hD
        refine lv_istore_n (lv' := [(2, .int r_9), (1, .int v_8), (0, .ref h)]) hx hb dX9_ways_35 rfl hl (by decide) rfl (fun ls hl => ?_)
        refine lv_goto (tgt := 12) hx hb dX9_ways_36 (by decide) ?_
        exact ih u_10 aside v_8 r_9 H locs (hP.sub [1, 2, 0] rfl) (hD.sub [1, 2, 0] (by decide) rfl) hS ls (lv_sub hl [2, 1, 0] rfl) hw
def wp_X9_ways (sv : Nat → Int32) (aside : Nat → Int32) (Q : Int32 → ((Nat → Int32) × (Nat → Int32)) → Prop) : Prop :=
  wp_X9_holds sv aside  (fun u_1 => wp_X9_firstOrder sv  (fun u_2 => (∃ j_ : Nat, wp_X9_ways_12  Q  j_ u_2 u_1 (0 : Int32) (1 : Int32))))
set_option maxHeartbeats 4000000 in
theorem mt_X9_ways (l : Launch) (G : GT) (h h_s h_images h_tape h_draft h_items h_moved h_sizes h_lanes h_less h_aside h_order : Nat) (sz : Nat) (kept : Int32) (typed : Int32) (atv : Int32) (sv : Nat → Int32) (aside : Nat → Int32) (Q : Int32 → ((Nat → Int32) × (Nat → Int32)) → Prop) (hw : wp_X9_ways sv aside Q) : Met l yX9_ways (ws_ yX9_ways cX9_ways 3 (some .int)) ({ frames := 2, cells := 0, slots := 0, locals := 51 } : Room) (va_Pc [.ref h] (fun U => U.heap.size = sz ∧ va_P G.1 gCl [oc h 9 [.ref h_s, .ref h_images, .int kept, .ref h_tape, .int typed, .ref h_draft, .int atv, .ref h_items, .ref h_moved, .ref h_sizes, .ref h_lanes, .ref h_less, .ref h_aside, .ref h_order], ai G h_s 161 sv, ai G h_aside 40 aside] U.heap ∧ gK G U ∧ va_D (fun _ => True) [oc h 9 [.ref h_s, .ref h_images, .int kept, .ref h_tape, .int typed, .ref h_draft, .int atv, .ref h_items, .ref h_moved, .ref h_sizes, .ref h_lanes, .ref h_less, .ref h_aside, .ref h_order], ai G h_s 161 sv, ai G h_aside 40 aside])) ((fun A => (va_Qi (fun (r : Int32) (u : (Nat → Int32) × (Nat → Int32)) => Q r u) (fun u t => va_P G.1 gCl [oc h 9 [.ref h_s, .ref h_images, .int kept, .ref h_tape, .int typed, .ref h_draft, .int atv, .ref h_items, .ref h_moved, .ref h_sizes, .ref h_lanes, .ref h_less, .ref h_aside, .ref h_order], ai G h_s 161 u.1, ai G h_aside 40 u.2] t.heap ∧ va_D A [oc h 9 [.ref h_s, .ref h_images, .int kept, .ref h_tape, .int typed, .ref h_draft, .int atv, .ref h_items, .ref h_moved, .ref h_sizes, .ref h_lanes, .ref h_less, .ref h_aside, .ref h_order], ai G h_s 161 u.1, ai G h_aside 40 u.2]) A)) (va_A [oc h 9 [.ref h_s, .ref h_images, .int kept, .ref h_tape, .int typed, .ref h_draft, .int atv, .ref h_items, .ref h_moved, .ref h_sizes, .ref h_lanes, .ref h_less, .ref h_aside, .ref h_order], ai G h_s 161 sv, ai G h_aside 40 aside] sz)) 0 0 (va_A [oc h 9 [.ref h_s, .ref h_images, .int kept, .ref h_tape, .int typed, .ref h_draft, .int atv, .ref h_items, .ref h_moved, .ref h_sizes, .ref h_lanes, .ref h_less, .ref h_aside, .ref h_order], ai G h_s 161 sv, ai G h_aside 40 aside] sz) := by
  refine Met.ofW (cc := cX9_ways) (maxL := 3) (ret := (some .int)) (by decide) rfl ?_
  intro p e s m args below meth c s₁ B hml hv
  obtain ⟨rfl, hsz, hP, hK, hD0⟩ := hv
  have hx := B.exec
  have hb := B.bytes
  have hr := B.returns
  have hts := atoms_spec (ws := (ws_ yX9_ways cX9_ways 3 (some .int))) B.pre
  have hts : ∀ w ∈ lw_all, w.before _ s = true := fun w h => hts w (List.mem_cons_of_mem _ h)
  have hown : s.vm.findClass RX9 = some m.cls := findClass_of_methodNamed B.named
  have hlocks := B.notSynchronized
  subst hsz
  have hD := hD0.self (sz := s.heap.size)
  generalize hAe : va_A [oc h 9 [.ref h_s, .ref h_images, .int kept, .ref h_tape, .int typed, .ref h_draft, .int atv, .ref h_items, .ref h_moved, .ref h_sizes, .ref h_lanes, .ref h_less, .ref h_aside, .ref h_order], ai G h_s 161 sv, ai G h_aside 40 aside] s.heap.size = A at hD ⊢
  have hA : ∀ q : Nat, s.heap.size ≤ q → A q := fun q h => by rw [← hAe]; exact Or.inr h
  have hS : va_S A s.heap s.heap [] := va_S.rf
  have C : Cx p s m meth c cX9_ways 3 (some .int) RX9 ([.ref h] : List Value).toArray G A := ⟨hx, hb, hr, hlocks, hml, hown, hts, hK, hA⟩
  have hl := lv_entry ([.ref h]) (n := 3) (Nat.le_of_ble_eq_true rfl)
  rw [lg_entry_eq]
  generalize (lg_sl ([.ref h]) ++ List.replicate (3 - (lg_sl ([.ref h])).length) Slot.unset).toArray = ls at hl ⊢
  have hl : lv_has ls 3 [(0, .ref h)] := hl
  unfold wp_X9_ways at hw
  refine lv_aload_n hx hb dX9_ways_0 rfl (lv_at hl 0 rfl) ?_
  have hPc := hP.sub (ws' := [oc h 9 [.ref h_s, .ref h_images, .int kept, .ref h_tape, .int typed, .ref h_draft, .int atv, .ref h_items, .ref h_moved, .ref h_sizes, .ref h_lanes, .ref h_less, .ref h_aside, .ref h_order], ai G h_s 161 sv, ai G h_aside 40 aside]) [0, 1, 2] rfl
  have hDc := hD.sub (ws' := [oc h 9 [.ref h_s, .ref h_images, .int kept, .ref h_tape, .int typed, .ref h_draft, .int atv, .ref h_items, .ref h_moved, .ref h_sizes, .ref h_lanes, .ref h_less, .ref h_aside, .ref h_order], ai G h_s 161 sv, ai G h_aside 40 aside]) [0, 1, 2] (by decide) rfl
  have hFc := va_free (wc := [oc h 9 [.ref h_s, .ref h_images, .int kept, .ref h_tape, .int typed, .ref h_draft, .int atv, .ref h_items, .ref h_moved, .ref h_sizes, .ref h_lanes, .ref h_less, .ref h_aside, .ref h_order], ai G h_s 161 sv, ai G h_aside 40 aside]) hD hS hA [0, 1, 2] rfl
  refine va_callv (va_runV (As := []) (rest := []) ⟨hx, hb, hml, hown, hts⟩ (mt_X9_holds l G h h_s h_images h_tape h_draft h_items h_moved h_sizes h_lanes h_less h_aside h_order s.heap.size kept typed atv sv aside  _ hw) (cwV 0 hts (lw_V q1010 q1012 qs45 q65 q1013) rfl rfl rfl (by decide +kernel) ⟨Nat.le_of_ble_eq_true rfl, Nat.le_of_ble_eq_true rfl⟩) ⟨fun a U g mk q => by obtain ⟨q0, q1, qP, qK, qD⟩ := q; exact ⟨q0, q1, qP, qK.call, qD⟩, va_recv hK.1 hP (ci := 9) (q0 := 0) rfl rfl, fun U hU hW => ⟨rfl, by rw [hU], by rw [hU]; exact hPc, hK.warm hW, hDc.weaken (fun _ _ _ _ => trivial)⟩⟩ rfl rfl hl.1 rfl (lv_room (Nat.le_of_ble_eq_true rfl)) dX9_ways_1 ⟨Nat.le_of_ble_eq_true rfl, Nat.le_of_ble_eq_true rfl⟩) hS (fun q _ h => hFc q h) hFc (fun u_1 t H1 locs ht hvm hw hB hz1 hk1 hS => ?_)
  obtain ⟨hP1, hD1⟩ := hB
  rw [ht] at hP1
  obtain ⟨hP, hD⟩ := va_join (wr := []) (w1 := [oc h 9 [.ref h_s, .ref h_images, .int kept, .ref h_tape, .int typed, .ref h_draft, .int atv, .ref h_items, .ref h_moved, .ref h_sizes, .ref h_lanes, .ref h_less, .ref h_aside, .ref h_order], ai G h_s 161 sv, ai G h_aside 40 u_1]) hP hD [0, 1, 2] [] rfl rfl (by decide) (by decide) hk1 hFc hP1 hD1
  clear hPc hDc hFc hP1 hD1 hz1 hk1 hvm
  generalize H1 = H at hP hS ⊢
  have hP : va_P G.1 gCl [oc h 9 [.ref h_s, .ref h_images, .int kept, .ref h_tape, .int typed, .ref h_draft, .int atv, .ref h_items, .ref h_moved, .ref h_sizes, .ref h_lanes, .ref h_less, .ref h_aside, .ref h_order], ai G h_s 161 sv, ai G h_aside 40 u_1] H := hP
  have hD : va_D A [oc h 9 [.ref h_s, .ref h_images, .int kept, .ref h_tape, .int typed, .ref h_draft, .int atv, .ref h_items, .ref h_moved, .ref h_sizes, .ref h_lanes, .ref h_less, .ref h_aside, .ref h_order], ai G h_s 161 sv, ai G h_aside 40 u_1] := hD
  refine lv_aload_n hx hb dX9_ways_4 rfl (lv_at hl 0 rfl) ?_
  have hPc := hP.sub (ws' := [oc h 9 [.ref h_s, .ref h_images, .int kept, .ref h_tape, .int typed, .ref h_draft, .int atv, .ref h_items, .ref h_moved, .ref h_sizes, .ref h_lanes, .ref h_less, .ref h_aside, .ref h_order], ai G h_s 161 sv]) [0, 1] rfl
  have hDc := hD.sub (ws' := [oc h 9 [.ref h_s, .ref h_images, .int kept, .ref h_tape, .int typed, .ref h_draft, .int atv, .ref h_items, .ref h_moved, .ref h_sizes, .ref h_lanes, .ref h_less, .ref h_aside, .ref h_order], ai G h_s 161 sv]) [0, 1] (by decide) rfl
  have hFc := va_free (wc := [oc h 9 [.ref h_s, .ref h_images, .int kept, .ref h_tape, .int typed, .ref h_draft, .int atv, .ref h_items, .ref h_moved, .ref h_sizes, .ref h_lanes, .ref h_less, .ref h_aside, .ref h_order], ai G h_s 161 sv]) hD hS hA [0, 1] rfl
  refine va_callv (va_runV (As := []) (rest := []) ⟨hx, hb, hml, hown, hts⟩ (mt_X9_firstOrder l G h h_s h_images h_tape h_draft h_items h_moved h_sizes h_lanes h_less h_aside h_order H.size kept typed atv sv  _ hw) (cwV 0 hts (lw_V q1057 q1059 qs49 q65 q1060) rfl rfl rfl (by decide +kernel) ⟨Nat.le_of_ble_eq_true rfl, Nat.le_of_ble_eq_true rfl⟩) ⟨fun a U g mk q => by obtain ⟨q0, q1, qP, qK, qD⟩ := q; exact ⟨q0, q1, qP, qK.call, qD⟩, va_recv hK.1 hP (ci := 9) (q0 := 0) rfl rfl, fun U hU hW => ⟨rfl, by rw [hU], by rw [hU]; exact hPc, hK.warm hW, hDc.weaken (fun _ _ _ _ => trivial)⟩⟩ rfl rfl hl.1 rfl (lv_room (Nat.le_of_ble_eq_true rfl)) dX9_ways_5 ⟨Nat.le_of_ble_eq_true rfl, Nat.le_of_ble_eq_true rfl⟩) hS (fun q _ h => hFc q h) hFc (fun u_2 t H1 locs ht hvm hw hB hz1 hk1 hS => ?_)
  obtain ⟨hP1, hD1⟩ := hB
  rw [ht] at hP1
  obtain ⟨hP, hD⟩ := va_join (wr := [ai G h_aside 40 u_1]) (w1 := [oc h 9 [.ref h_s, .ref h_images, .int kept, .ref h_tape, .int typed, .ref h_draft, .int atv, .ref h_items, .ref h_moved, .ref h_sizes, .ref h_lanes, .ref h_less, .ref h_aside, .ref h_order], ai G h_s 161 u_2]) hP hD [0, 1] [2] rfl rfl (by decide) (by decide) hk1 hFc hP1 hD1
  clear hPc hDc hFc hP1 hD1 hz1 hk1 hvm
  generalize H1 = H at hP hS ⊢
  have hP : va_P G.1 gCl [ai G h_aside 40 u_1, oc h 9 [.ref h_s, .ref h_images, .int kept, .ref h_tape, .int typed, .ref h_draft, .int atv, .ref h_items, .ref h_moved, .ref h_sizes, .ref h_lanes, .ref h_less, .ref h_aside, .ref h_order], ai G h_s 161 u_2] H := hP
  have hD : va_D A [ai G h_aside 40 u_1, oc h 9 [.ref h_s, .ref h_images, .int kept, .ref h_tape, .int typed, .ref h_draft, .int atv, .ref h_items, .ref h_moved, .ref h_sizes, .ref h_lanes, .ref h_less, .ref h_aside, .ref h_order], ai G h_s 161 u_2] := hD
  refine lv_iconst (v := (0 : Int32)) hx hb dX9_ways_8 (by decide) ?_
  refine lv_istore_n (lv' := [(1, .int (0 : Int32)), (0, .ref h)]) hx hb dX9_ways_9 rfl hl (by decide) rfl (fun ls hl => ?_)
  refine lv_iconst (v := (1 : Int32)) hx hb dX9_ways_10 (by decide) ?_
  refine lv_istore_n (lv' := [(2, .int (1 : Int32)), (1, .int (0 : Int32)), (0, .ref h)]) hx hb dX9_ways_11 rfl hl (by decide) rfl (fun ls hl => ?_)
  obtain ⟨j_, hw⟩ := hw
  exact wk_X9_ways_12 h h_s h_images h_tape h_draft h_items h_moved h_sizes h_lanes h_less h_aside h_order kept typed atv  Q  C  j_ u_2 u_1 (0 : Int32) (1 : Int32) H locs (hP.sub [1, 2, 0] rfl) (hD.sub [1, 2, 0] (by decide) rfl) hS ls (lv_sub hl [2, 1, 0] rfl) hw
/-! BattleBenchModel.ease(I)I -/
def wp_X9_ease_24 (p1 : Int32) (Q : Int32 → ((Nat → Int32) × (Nat → Int32)) → Prop)  : Nat → (Nat → Int32) → (Nat → Int32) → Int32 → Int32 → Int32 → Prop
  | 0, _, _, _, _, _ => False
  | n + 1, sv, aside, x2, x3, x4 =>
    (((x4 = 0) → wp_X9_lets sv aside  (fun u_2 => ((¬ (p1 = (-1 : Int32)) → Q x3 (u_2, aside)) ∧ ((p1 = (-1 : Int32)) → Q x2 (u_2, aside))))) ∧ (¬ (x4 = 0) → wp_X9_wrong sv  (fun r_4 => (((x2 ≤ r_4) → (((x2 ≤ r_4) → wp_X9_nextOrder sv  (fun r_7 u_8 => wp_X9_ease_24 p1 Q  n u_8 aside x2 x3 r_7)) ∧ (¬ (x2 ≤ r_4) → wp_X9_nextOrder sv  (fun r_9 u_10 => wp_X9_ease_24 p1 Q  n u_10 aside r_4 x3 r_9)))) ∧ (¬ (x2 ≤ r_4) → wp_X9_onSeat sv p1 (fun r_11 => (((x2 ≤ r_4) → wp_X9_nextOrder sv  (fun r_13 u_14 => wp_X9_ease_24 p1 Q  n u_14 aside x2 r_11 r_13)) ∧ (¬ (x2 ≤ r_4) → wp_X9_nextOrder sv  (fun r_15 u_16 => wp_X9_ease_24 p1 Q  n u_16 aside r_4 r_11 r_15)))))))))
set_option maxHeartbeats 4000000 in
theorem wk_X9_ease_24 {p : Program} {l : Launch} {e : Env} {s : State} {m : MethodId} {below : List Frame} {meth : Method} {c : Code} {args : Array Value} {G : GT} {A : Nat → Prop} (h h_s h_images h_tape h_draft h_items h_moved h_sizes h_lanes h_less h_aside h_order : Nat) (kept : Int32) (typed : Int32) (atv : Int32) (p1 : Int32) (Q : Int32 → ((Nat → Int32) × (Nat → Int32)) → Prop)  (C : Cx p s m meth c cX9_ease 6 (some .int) RX9 args G A)  :
    ∀ (n : Nat), ∀  (sv : Nat → Int32) (aside : Nat → Int32) (x2 : Int32) (x3 : Int32) (x4 : Int32) (H : Heap) (locs : List Loc), va_P G.1 gCl [oc h 9 [.ref h_s, .ref h_images, .int kept, .ref h_tape, .int typed, .ref h_draft, .int atv, .ref h_items, .ref h_moved, .ref h_sizes, .ref h_lanes, .ref h_less, .ref h_aside, .ref h_order], ai G h_s 161 sv, ai G h_aside 40 aside] H → va_D A [oc h 9 [.ref h_s, .ref h_images, .int kept, .ref h_tape, .int typed, .ref h_draft, .int atv, .ref h_items, .ref h_moved, .ref h_sizes, .ref h_lanes, .ref h_less, .ref h_aside, .ref h_order], ai G h_s 161 sv, ai G h_aside 40 aside] → va_S A s.heap H locs → ∀ (ls : Array Slot), lv_has ls 6 [(0, .ref h), (1, .int p1), (2, .int x2), (3, .int x3), (4, .int x4)] → wp_X9_ease_24 p1 Q  n sv aside x2 x3 x4 → W p l e ({ frames := 2, cells := 0, slots := 0, locals := 51 } : Room) s m args below meth c H locs 0 0 (MQ below (va_Qi (fun (r : Int32) (u : (Nat → Int32) × (Nat → Int32)) => Q r u) (fun u t => va_P G.1 gCl [oc h 9 [.ref h_s, .ref h_images, .int kept, .ref h_tape, .int typed, .ref h_draft, .int atv, .ref h_items, .ref h_moved, .ref h_sizes, .ref h_lanes, .ref h_less, .ref h_aside, .ref h_order], ai G h_s 161 u.1, ai G h_aside 40 u.2] t.heap ∧ va_D A [oc h 9 [.ref h_s, .ref h_images, .int kept, .ref h_tape, .int typed, .ref h_draft, .int atv, .ref h_items, .ref h_moved, .ref h_sizes, .ref h_lanes, .ref h_less, .ref h_aside, .ref h_order], ai G h_s 161 u.1, ai G h_aside 40 u.2]) A) args s 0 0 A) (F0 m 24 ls []) := by
  have C9 := C
  obtain ⟨hx, hb, hr, hlocks, hml, hown, hts, hK, hA⟩ := C9
  intro n
  induction n with
  | zero => intro sv aside x2 x3 x4 H locs hP hD hS ls hl hw; exact False.elim hw
  | succ n ih =>
    intro sv aside x2 x3 x4 H locs hP hD hS ls hl hw
    unfold wp_X9_ease_24 at hw
    refine lv_iload hx hb dX9_ease_24 (lv_at hl 4 rfl) ?_
    refine lv_if_eq (tgt := 73) hx hb dX9_ease_26 (by decide) (fun c_1 => ?_) (fun c_1 => ?_)
    · replace hw := hw.1 c_1
      refine lv_aload_n hx hb dX9_ease_73 rfl (lv_at hl 0 rfl) ?_
      have hPc := hP.sub (ws' := [oc h 9 [.ref h_s, .ref h_images, .int kept, .ref h_tape, .int typed, .ref h_draft, .int atv, .ref h_items, .ref h_moved, .ref h_sizes, .ref h_lanes, .ref h_less, .ref h_aside, .ref h_order], ai G h_s 161 sv, ai G h_aside 40 aside]) [0, 1, 2] rfl
      have hDc := hD.sub (ws' := [oc h 9 [.ref h_s, .ref h_images, .int kept, .ref h_tape, .int typed, .ref h_draft, .int atv, .ref h_items, .ref h_moved, .ref h_sizes, .ref h_lanes, .ref h_less, .ref h_aside, .ref h_order], ai G h_s 161 sv, ai G h_aside 40 aside]) [0, 1, 2] (by decide) rfl
      have hFc := va_free (wc := [oc h 9 [.ref h_s, .ref h_images, .int kept, .ref h_tape, .int typed, .ref h_draft, .int atv, .ref h_items, .ref h_moved, .ref h_sizes, .ref h_lanes, .ref h_less, .ref h_aside, .ref h_order], ai G h_s 161 sv, ai G h_aside 40 aside]) hD hS hA [0, 1, 2] rfl
      refine va_callv (va_runV (As := []) (rest := []) ⟨hx, hb, hml, hown, hts⟩ (mt_X9_lets l G h h_s h_images h_tape h_draft h_items h_moved h_sizes h_lanes h_less h_aside h_order H.size kept typed atv sv aside  _ hw) (cwV 0 hts (lw_V q1014 q1016 qs46 q65 q1017) rfl rfl rfl (by decide +kernel) ⟨Nat.le_of_ble_eq_true rfl, Nat.le_of_ble_eq_true rfl⟩) ⟨fun a U g mk q => by obtain ⟨q0, q1, qP, qK, qD⟩ := q; exact ⟨q0, q1, qP, qK.call, qD⟩, va_recv hK.1 hP (ci := 9) (q0 := 0) rfl rfl, fun U hU hW => ⟨rfl, by rw [hU], by rw [hU]; exact hPc, hK.warm hW, hDc.weaken (fun _ _ _ _ => trivial)⟩⟩ rfl rfl hl.1 rfl (lv_room (Nat.le_of_ble_eq_true rfl)) dX9_ease_74 ⟨Nat.le_of_ble_eq_true rfl, Nat.le_of_ble_eq_true rfl⟩) hS (fun q _ h => hFc q h) hFc (fun u_2 t H1 locs ht hvm hw hB hz1 hk1 hS => ?_)
      obtain ⟨hP1, hD1⟩ := hB
      rw [ht] at hP1
      obtain ⟨hP, hD⟩ := va_join (wr := []) (w1 := [oc h 9 [.ref h_s, .ref h_images, .int kept, .ref h_tape, .int typed, .ref h_draft, .int atv, .ref h_items, .ref h_moved, .ref h_sizes, .ref h_lanes, .ref h_less, .ref h_aside, .ref h_order], ai G h_s 161 u_2, ai G h_aside 40 aside]) hP hD [0, 1, 2] [] rfl rfl (by decide) (by decide) hk1 hFc hP1 hD1
      clear hPc hDc hFc hP1 hD1 hz1 hk1 hvm
      generalize H1 = H at hP hS ⊢
      have hP : va_P G.1 gCl [oc h 9 [.ref h_s, .ref h_images, .int kept, .ref h_tape, .int typed, .ref h_draft, .int atv, .ref h_items, .ref h_moved, .ref h_sizes, .ref h_lanes, .ref h_less, .ref h_aside, .ref h_order], ai G h_s 161 u_2, ai G h_aside 40 aside] H := hP
      have hD : va_D A [oc h 9 [.ref h_s, .ref h_images, .int kept, .ref h_tape, .int typed, .ref h_draft, .int atv, .ref h_items, .ref h_moved, .ref h_sizes, .ref h_lanes, .ref h_less, .ref h_aside, .ref h_order], ai G h_s 161 u_2, ai G h_aside 40 aside] := hD
      refine lv_iload_n hx hb dX9_ease_77 rfl (lv_at hl 1 rfl) ?_
      refine lv_iconst (v := (-1 : Int32)) hx hb dX9_ease_78 (by decide) ?_
      refine lv_icmp_ne (tgt := 86) hx hb dX9_ease_79 (by decide) (fun c_3 => ?_) (fun c_3 => ?_)
      · replace hw := hw.1 c_3
        refine lv_iload_n hx hb dX9_ease_86 rfl (lv_at hl 3 rfl) ?_
        have hP9 := hP
        have hD9 := hD
        exact W.iret (v := x3) hx hb hr (fun t ht hW => ⟨⟨x3, (u_2, aside), rfl, hw, by rw [ht]; exact hP9, hD9⟩, hS.F ht⟩) hS.2.2 dX9_ease_87
      · replace hw := hw.2 c_3
        refine lv_iload_n hx hb dX9_ease_82 rfl (lv_at hl 2 rfl) ?_
        refine lv_goto (tgt := 87) hx hb dX9_ease_83 (by decide) ?_
        have hP9 := hP
        have hD9 := hD
        exact W.iret (v := x2) hx hb hr (fun t ht hW => ⟨⟨x2, (u_2, aside), rfl, hw, by rw [ht]; exact hP9, hD9⟩, hS.F ht⟩) hS.2.2 dX9_ease_87
    · replace hw := hw.2 c_1
      refine lv_aload_n hx hb dX9_ease_29 rfl (lv_at hl 0 rfl) ?_
      have hPc := hP.sub (ws' := [oc h 9 [.ref h_s, .ref h_images, .int kept, .ref h_tape, .int typed, .ref h_draft, .int atv, .ref h_items, .ref h_moved, .ref h_sizes, .ref h_lanes, .ref h_less, .ref h_aside, .ref h_order], ai G h_s 161 sv]) [0, 1] rfl
      have hDc := hD.sub (ws' := [oc h 9 [.ref h_s, .ref h_images, .int kept, .ref h_tape, .int typed, .ref h_draft, .int atv, .ref h_items, .ref h_moved, .ref h_sizes, .ref h_lanes, .ref h_less, .ref h_aside, .ref h_order], ai G h_s 161 sv]) [0, 1] (by decide) rfl
      have hFc := va_free (wc := [oc h 9 [.ref h_s, .ref h_images, .int kept, .ref h_tape, .int typed, .ref h_draft, .int atv, .ref h_items, .ref h_moved, .ref h_sizes, .ref h_lanes, .ref h_less, .ref h_aside, .ref h_order], ai G h_s 161 sv]) hD hS hA [0, 1] rfl
      refine va_calli (va_runV (As := []) (rest := []) ⟨hx, hb, hml, hown, hts⟩ (mt_X9_wrong l G h h_s h_images h_tape h_draft h_items h_moved h_sizes h_lanes h_less h_aside h_order H.size kept typed atv sv  _ hw) (cwV 0 hts (lw_V q960 q962 qs41 q65 q963) rfl rfl rfl (by decide +kernel) ⟨Nat.le_of_ble_eq_true rfl, Nat.le_of_ble_eq_true rfl⟩) ⟨fun a U g mk q => by obtain ⟨q0, q1, qP, qK, qD⟩ := q; exact ⟨q0, q1, qP, qK.call, qD⟩, va_recv hK.1 hP (ci := 9) (q0 := 0) rfl rfl, fun U hU hW => ⟨rfl, by rw [hU], by rw [hU]; exact hPc, hK.warm hW, hDc.weaken (fun _ _ _ _ => trivial)⟩⟩ rfl rfl hl.1 rfl (lv_room (Nat.le_of_ble_eq_true rfl)) dX9_ease_30 ⟨Nat.le_of_ble_eq_true rfl, Nat.le_of_ble_eq_true rfl⟩) hS (fun q _ h => hFc q h) hFc (fun r_4 _ t H1 locs ht hvm hw hB hz1 hk1 hS => ?_)
      obtain ⟨hP1, hD1⟩ := hB
      rw [ht] at hP1
      obtain ⟨hP, hD⟩ := va_join (wr := [ai G h_aside 40 aside]) (w1 := [oc h 9 [.ref h_s, .ref h_images, .int kept, .ref h_tape, .int typed, .ref h_draft, .int atv, .ref h_items, .ref h_moved, .ref h_sizes, .ref h_lanes, .ref h_less, .ref h_aside, .ref h_order], ai G h_s 161 sv]) hP hD [0, 1] [2] rfl rfl (by decide) (by decide) hk1 hFc hP1 hD1
      clear hPc hDc hFc hP1 hD1 hz1 hk1 hvm
      generalize H1 = H at hP hS ⊢
      have hP : va_P G.1 gCl [ai G h_aside 40 aside, oc h 9 [.ref h_s, .ref h_images, .int kept, .ref h_tape, .int typed, .ref h_draft, .int atv, .ref h_items, .ref h_moved, .ref h_sizes, .ref h_lanes, .ref h_less, .ref h_aside, .ref h_order], ai G h_s 161 sv] H := hP
      have hD : va_D A [ai G h_aside 40 aside, oc h 9 [.ref h_s, .ref h_images, .int kept, .ref h_tape, .int typed, .ref h_draft, .int atv, .ref h_items, .ref h_moved, .ref h_sizes, .ref h_lanes, .ref h_less, .ref h_aside, .ref h_order], ai G h_s 161 sv] := hD
      refine lv_istore (lv' := [(5, .int r_4), (0, .ref h), (1, .int p1), (2, .int x2), (3, .int x3), (4, .int x4)]) hx hb dX9_ease_33 hl (by decide) rfl (fun ls hl => ?_)
      refine lv_iload hx hb dX9_ease_35 (lv_at hl 0 rfl) ?_
      refine lv_iload_n hx hb dX9_ease_37 rfl (lv_at hl 3 rfl) ?_
      refine lv_icmp_ge (tgt := 49) hx hb dX9_ease_38 (by decide) (fun c_5 => ?_) (fun c_5 => ?_)
      · replace hw := hw.1 c_5
        refine lv_iload_n hx hb dX9_ease_49 rfl (lv_at hl 4 rfl) ?_
        refine lv_istore_n (lv' := [(3, .int x3), (5, .int r_4), (0, .ref h), (1, .int p1), (2, .int x2), (4, .int x4)]) hx hb dX9_ease_50 rfl hl (by decide) rfl (fun ls hl => ?_)
        refine lv_iload hx hb dX9_ease_51 (lv_at hl 1 rfl) ?_
        refine lv_iload_n hx hb dX9_ease_53 rfl (lv_at hl 4 rfl) ?_
        refine lv_icmp_ge (tgt := 62) hx hb dX9_ease_54 (by decide) (fun c_6 => ?_) (fun c_6 => ?_)
        · replace hw := hw.1 c_6
          refine lv_iload_n hx hb dX9_ease_62 rfl (lv_at hl 4 rfl) ?_
          refine lv_istore_n (lv' := [(2, .int x2), (3, .int x3), (5, .int r_4), (0, .ref h), (1, .int p1), (4, .int x4)]) hx hb dX9_ease_63 rfl hl (by decide) rfl (fun ls hl => ?_)
          refine lv_aload_n hx hb dX9_ease_64 rfl (lv_at hl 3 rfl) ?_
          have hPc := hP.sub (ws' := [oc h 9 [.ref h_s, .ref h_images, .int kept, .ref h_tape, .int typed, .ref h_draft, .int atv, .ref h_items, .ref h_moved, .ref h_sizes, .ref h_lanes, .ref h_less, .ref h_aside, .ref h_order], ai G h_s 161 sv]) [1, 2] rfl
          have hDc := hD.sub (ws' := [oc h 9 [.ref h_s, .ref h_images, .int kept, .ref h_tape, .int typed, .ref h_draft, .int atv, .ref h_items, .ref h_moved, .ref h_sizes, .ref h_lanes, .ref h_less, .ref h_aside, .ref h_order], ai G h_s 161 sv]) [1, 2] (by decide) rfl
          have hFc := va_free (wc := [oc h 9 [.ref h_s, .ref h_images, .int kept, .ref h_tape, .int typed, .ref h_draft, .int atv, .ref h_items, .ref h_moved, .ref h_sizes, .ref h_lanes, .ref h_less, .ref h_aside, .ref h_order], ai G h_s 161 sv]) hD hS hA [1, 2] rfl
          refine va_calli (va_runV (As := []) (rest := []) ⟨hx, hb, hml, hown, hts⟩ (mt_X9_nextOrder l G h h_s h_images h_tape h_draft h_items h_moved h_sizes h_lanes h_less h_aside h_order H.size kept typed atv sv  _ hw) (cwV 0 hts (lw_V q1061 q1063 qs50 q65 q1064) rfl rfl rfl (by decide +kernel) ⟨Nat.le_of_ble_eq_true rfl, Nat.le_of_ble_eq_true rfl⟩) ⟨fun a U g mk q => by obtain ⟨q0, q1, qP, qK, qD⟩ := q; exact ⟨q0, q1, qP, qK.call, qD⟩, va_recv hK.1 hP (ci := 9) (q0 := 1) rfl rfl, fun U hU hW => ⟨rfl, by rw [hU], by rw [hU]; exact hPc, hK.warm hW, hDc.weaken (fun _ _ _ _ => trivial)⟩⟩ rfl rfl hl.1 rfl (lv_room (Nat.le_of_ble_eq_true rfl)) dX9_ease_65 ⟨Nat.le_of_ble_eq_true rfl, Nat.le_of_ble_eq_true rfl⟩) hS (fun q _ h => hFc q h) hFc (fun r_7 u_8 t H1 locs ht hvm hw hB hz1 hk1 hS => ?_)
          obtain ⟨hP1, hD1⟩ := hB
          rw [ht] at hP1
          obtain ⟨hP, hD⟩ := va_join (wr := [ai G h_aside 40 aside]) (w1 := [oc h 9 [.ref h_s, .ref h_images, .int kept, .ref h_tape, .int typed, .ref h_draft, .int atv, .ref h_items, .ref h_moved, .ref h_sizes, .ref h_lanes, .ref h_less, .ref h_aside, .ref h_order], ai G h_s 161 u_8]) hP hD [1, 2] [0] rfl rfl (by decide) (by decide) hk1 hFc hP1 hD1
          clear hPc hDc hFc hP1 hD1 hz1 hk1 hvm
          generalize H1 = H at hP hS ⊢
          have hP : va_P G.1 gCl [ai G h_aside 40 aside, oc h 9 [.ref h_s, .ref h_images, .int kept, .ref h_tape, .int typed, .ref h_draft, .int atv, .ref h_items, .ref h_moved, .ref h_sizes, .ref h_lanes, .ref h_less, .ref h_aside, .ref h_order], ai G h_s 161 u_8] H := hP
          have hD : va_D A [ai G h_aside 40 aside, oc h 9 [.ref h_s, .ref h_images, .int kept, .ref h_tape, .int typed, .ref h_draft, .int atv, .ref h_items, .ref h_moved, .ref h_sizes, .ref h_lanes, .ref h_less, .ref h_aside, .ref h_order], ai G h_s 161 u_8] := hD
          refine lv_istore (lv' := [(4, .int r_7), (2, .int x2), (3, .int x3), (5, .int r_4), (0, .ref h), (1, .int p1)]) hx hb dX9_ease_68 hl (by decide) rfl (fun ls hl => ?_)
          refine lv_goto (tgt := 24) hx hb dX9_ease_70 (by decide) ?_
          exact ih u_8 aside x2 x3 r_7 H locs (hP.sub [1, 2, 0] rfl) (hD.sub [1, 2, 0] (by decide) rfl) hS ls (lv_sub hl [4, 5, 1, 2, 0] rfl) hw
        · replace hw := hw.2 c_6
          refine lv_iload hx hb dX9_ease_57 (lv_at hl 1 rfl) ?_
          refine lv_goto (tgt := 63) hx hb dX9_ease_59 (by decide) ?_
          refine lv_istore_n (lv' := [(2, .int r_4), (3, .int x3), (5, .int r_4), (0, .ref h), (1, .int p1), (4, .int x4)]) hx hb dX9_ease_63 rfl hl (by decide) rfl (fun ls hl => ?_)
          refine lv_aload_n hx hb dX9_ease_64 rfl (lv_at hl 3 rfl) ?_
          have hPc := hP.sub (ws' := [oc h 9 [.ref h_s, .ref h_images, .int kept, .ref h_tape, .int typed, .ref h_draft, .int atv, .ref h_items, .ref h_moved, .ref h_sizes, .ref h_lanes, .ref h_less, .ref h_aside, .ref h_order], ai G h_s 161 sv]) [1, 2] rfl
          have hDc := hD.sub (ws' := [oc h 9 [.ref h_s, .ref h_images, .int kept, .ref h_tape, .int typed, .ref h_draft, .int atv, .ref h_items, .ref h_moved, .ref h_sizes, .ref h_lanes, .ref h_less, .ref h_aside, .ref h_order], ai G h_s 161 sv]) [1, 2] (by decide) rfl
          have hFc := va_free (wc := [oc h 9 [.ref h_s, .ref h_images, .int kept, .ref h_tape, .int typed, .ref h_draft, .int atv, .ref h_items, .ref h_moved, .ref h_sizes, .ref h_lanes, .ref h_less, .ref h_aside, .ref h_order], ai G h_s 161 sv]) hD hS hA [1, 2] rfl
          refine va_calli (va_runV (As := []) (rest := []) ⟨hx, hb, hml, hown, hts⟩ (mt_X9_nextOrder l G h h_s h_images h_tape h_draft h_items h_moved h_sizes h_lanes h_less h_aside h_order H.size kept typed atv sv  _ hw) (cwV 0 hts (lw_V q1061 q1063 qs50 q65 q1064) rfl rfl rfl (by decide +kernel) ⟨Nat.le_of_ble_eq_true rfl, Nat.le_of_ble_eq_true rfl⟩) ⟨fun a U g mk q => by obtain ⟨q0, q1, qP, qK, qD⟩ := q; exact ⟨q0, q1, qP, qK.call, qD⟩, va_recv hK.1 hP (ci := 9) (q0 := 1) rfl rfl, fun U hU hW => ⟨rfl, by rw [hU], by rw [hU]; exact hPc, hK.warm hW, hDc.weaken (fun _ _ _ _ => trivial)⟩⟩ rfl rfl hl.1 rfl (lv_room (Nat.le_of_ble_eq_true rfl)) dX9_ease_65 ⟨Nat.le_of_ble_eq_true rfl, Nat.le_of_ble_eq_true rfl⟩) hS (fun q _ h => hFc q h) hFc (fun r_9 u_10 t H1 locs ht hvm hw hB hz1 hk1 hS => ?_)
          obtain ⟨hP1, hD1⟩ := hB
          rw [ht] at hP1
          obtain ⟨hP, hD⟩ := va_join (wr := [ai G h_aside 40 aside]) (w1 := [oc h 9 [.ref h_s, .ref h_images, .int kept, .ref h_tape, .int typed, .ref h_draft, .int atv, .ref h_items, .ref h_moved, .ref h_sizes, .ref h_lanes, .ref h_less, .ref h_aside, .ref h_order], ai G h_s 161 u_10]) hP hD [1, 2] [0] rfl rfl (by decide) (by decide) hk1 hFc hP1 hD1
          clear hPc hDc hFc hP1 hD1 hz1 hk1 hvm
          generalize H1 = H at hP hS ⊢
          have hP : va_P G.1 gCl [ai G h_aside 40 aside, oc h 9 [.ref h_s, .ref h_images, .int kept, .ref h_tape, .int typed, .ref h_draft, .int atv, .ref h_items, .ref h_moved, .ref h_sizes, .ref h_lanes, .ref h_less, .ref h_aside, .ref h_order], ai G h_s 161 u_10] H := hP
          have hD : va_D A [ai G h_aside 40 aside, oc h 9 [.ref h_s, .ref h_images, .int kept, .ref h_tape, .int typed, .ref h_draft, .int atv, .ref h_items, .ref h_moved, .ref h_sizes, .ref h_lanes, .ref h_less, .ref h_aside, .ref h_order], ai G h_s 161 u_10] := hD
          refine lv_istore (lv' := [(4, .int r_9), (2, .int r_4), (3, .int x3), (5, .int r_4), (0, .ref h), (1, .int p1)]) hx hb dX9_ease_68 hl (by decide) rfl (fun ls hl => ?_)
          refine lv_goto (tgt := 24) hx hb dX9_ease_70 (by decide) ?_
          exact ih u_10 aside r_4 x3 r_9 H locs (hP.sub [1, 2, 0] rfl) (hD.sub [1, 2, 0] (by decide) rfl) hS ls (lv_sub hl [4, 5, 1, 2, 0] rfl) hw
      · replace hw := hw.2 c_5
        refine lv_aload_n hx hb dX9_ease_41 rfl (lv_at hl 1 rfl) ?_
        refine lv_iload_n hx hb dX9_ease_42 rfl (lv_at hl 2 rfl) ?_
        have hPc := hP.sub (ws' := [oc h 9 [.ref h_s, .ref h_images, .int kept, .ref h_tape, .int typed, .ref h_draft, .int atv, .ref h_items, .ref h_moved, .ref h_sizes, .ref h_lanes, .ref h_less, .ref h_aside, .ref h_order], ai G h_s 161 sv]) [1, 2] rfl
        have hDc := hD.sub (ws' := [oc h 9 [.ref h_s, .ref h_images, .int kept, .ref h_tape, .int typed, .ref h_draft, .int atv, .ref h_items, .ref h_moved, .ref h_sizes, .ref h_lanes, .ref h_less, .ref h_aside, .ref h_order], ai G h_s 161 sv]) [1, 2] (by decide) rfl
        have hFc := va_free (wc := [oc h 9 [.ref h_s, .ref h_images, .int kept, .ref h_tape, .int typed, .ref h_draft, .int atv, .ref h_items, .ref h_moved, .ref h_sizes, .ref h_lanes, .ref h_less, .ref h_aside, .ref h_order], ai G h_s 161 sv]) hD hS hA [1, 2] rfl
        refine va_calli (va_runV (As := [.int p1]) (rest := []) ⟨hx, hb, hml, hown, hts⟩ (mt_X9_onSeat l G h h_s h_images h_tape h_draft h_items h_moved h_sizes h_lanes h_less h_aside h_order H.size kept typed atv sv p1 _ hw) (cwV 1 hts (lw_V q899 q901 qs32 q65 q902) rfl rfl rfl (by decide +kernel) ⟨Nat.le_of_ble_eq_true rfl, Nat.le_of_ble_eq_true rfl⟩) ⟨fun a U g mk q => by obtain ⟨q0, q1, qP, qK, qD⟩ := q; exact ⟨q0, q1, qP, qK.call, qD⟩, va_recv hK.1 hP (ci := 9) (q0 := 1) rfl rfl, fun U hU hW => ⟨rfl, by rw [hU], by rw [hU]; exact hPc, hK.warm hW, hDc.weaken (fun _ _ _ _ => trivial)⟩⟩ rfl rfl hl.1 rfl (lv_room (Nat.le_of_ble_eq_true rfl)) dX9_ease_43 ⟨Nat.le_of_ble_eq_true rfl, Nat.le_of_ble_eq_true rfl⟩) hS (fun q _ h => hFc q h) hFc (fun r_11 _ t H1 locs ht hvm hw hB hz1 hk1 hS => ?_)
        obtain ⟨hP1, hD1⟩ := hB
        rw [ht] at hP1
        obtain ⟨hP, hD⟩ := va_join (wr := [ai G h_aside 40 aside]) (w1 := [oc h 9 [.ref h_s, .ref h_images, .int kept, .ref h_tape, .int typed, .ref h_draft, .int atv, .ref h_items, .ref h_moved, .ref h_sizes, .ref h_lanes, .ref h_less, .ref h_aside, .ref h_order], ai G h_s 161 sv]) hP hD [1, 2] [0] rfl rfl (by decide) (by decide) hk1 hFc hP1 hD1
        clear hPc hDc hFc hP1 hD1 hz1 hk1 hvm
        generalize H1 = H at hP hS ⊢
        have hP : va_P G.1 gCl [ai G h_aside 40 aside, oc h 9 [.ref h_s, .ref h_images, .int kept, .ref h_tape, .int typed, .ref h_draft, .int atv, .ref h_items, .ref h_moved, .ref h_sizes, .ref h_lanes, .ref h_less, .ref h_aside, .ref h_order], ai G h_s 161 sv] H := hP
        have hD : va_D A [ai G h_aside 40 aside, oc h 9 [.ref h_s, .ref h_images, .int kept, .ref h_tape, .int typed, .ref h_draft, .int atv, .ref h_items, .ref h_moved, .ref h_sizes, .ref h_lanes, .ref h_less, .ref h_aside, .ref h_order], ai G h_s 161 sv] := hD
        refine lv_goto (tgt := 50) hx hb dX9_ease_46 (by decide) ?_
        refine lv_istore_n (lv' := [(3, .int r_11), (5, .int r_4), (0, .ref h), (1, .int p1), (2, .int x2), (4, .int x4)]) hx hb dX9_ease_50 rfl hl (by decide) rfl (fun ls hl => ?_)
        refine lv_iload hx hb dX9_ease_51 (lv_at hl 1 rfl) ?_
        refine lv_iload_n hx hb dX9_ease_53 rfl (lv_at hl 4 rfl) ?_
        refine lv_icmp_ge (tgt := 62) hx hb dX9_ease_54 (by decide) (fun c_12 => ?_) (fun c_12 => ?_)
        · replace hw := hw.1 c_12
          refine lv_iload_n hx hb dX9_ease_62 rfl (lv_at hl 4 rfl) ?_
          refine lv_istore_n (lv' := [(2, .int x2), (3, .int r_11), (5, .int r_4), (0, .ref h), (1, .int p1), (4, .int x4)]) hx hb dX9_ease_63 rfl hl (by decide) rfl (fun ls hl => ?_)
          refine lv_aload_n hx hb dX9_ease_64 rfl (lv_at hl 3 rfl) ?_
          have hPc := hP.sub (ws' := [oc h 9 [.ref h_s, .ref h_images, .int kept, .ref h_tape, .int typed, .ref h_draft, .int atv, .ref h_items, .ref h_moved, .ref h_sizes, .ref h_lanes, .ref h_less, .ref h_aside, .ref h_order], ai G h_s 161 sv]) [1, 2] rfl
          have hDc := hD.sub (ws' := [oc h 9 [.ref h_s, .ref h_images, .int kept, .ref h_tape, .int typed, .ref h_draft, .int atv, .ref h_items, .ref h_moved, .ref h_sizes, .ref h_lanes, .ref h_less, .ref h_aside, .ref h_order], ai G h_s 161 sv]) [1, 2] (by decide) rfl
          have hFc := va_free (wc := [oc h 9 [.ref h_s, .ref h_images, .int kept, .ref h_tape, .int typed, .ref h_draft, .int atv, .ref h_items, .ref h_moved, .ref h_sizes, .ref h_lanes, .ref h_less, .ref h_aside, .ref h_order], ai G h_s 161 sv]) hD hS hA [1, 2] rfl
          refine va_calli (va_runV (As := []) (rest := []) ⟨hx, hb, hml, hown, hts⟩ (mt_X9_nextOrder l G h h_s h_images h_tape h_draft h_items h_moved h_sizes h_lanes h_less h_aside h_order H.size kept typed atv sv  _ hw) (cwV 0 hts (lw_V q1061 q1063 qs50 q65 q1064) rfl rfl rfl (by decide +kernel) ⟨Nat.le_of_ble_eq_true rfl, Nat.le_of_ble_eq_true rfl⟩) ⟨fun a U g mk q => by obtain ⟨q0, q1, qP, qK, qD⟩ := q; exact ⟨q0, q1, qP, qK.call, qD⟩, va_recv hK.1 hP (ci := 9) (q0 := 1) rfl rfl, fun U hU hW => ⟨rfl, by rw [hU], by rw [hU]; exact hPc, hK.warm hW, hDc.weaken (fun _ _ _ _ => trivial)⟩⟩ rfl rfl hl.1 rfl (lv_room (Nat.le_of_ble_eq_true rfl)) dX9_ease_65 ⟨Nat.le_of_ble_eq_true rfl, Nat.le_of_ble_eq_true rfl⟩) hS (fun q _ h => hFc q h) hFc (fun r_13 u_14 t H1 locs ht hvm hw hB hz1 hk1 hS => ?_)
          obtain ⟨hP1, hD1⟩ := hB
          rw [ht] at hP1
          obtain ⟨hP, hD⟩ := va_join (wr := [ai G h_aside 40 aside]) (w1 := [oc h 9 [.ref h_s, .ref h_images, .int kept, .ref h_tape, .int typed, .ref h_draft, .int atv, .ref h_items, .ref h_moved, .ref h_sizes, .ref h_lanes, .ref h_less, .ref h_aside, .ref h_order], ai G h_s 161 u_14]) hP hD [1, 2] [0] rfl rfl (by decide) (by decide) hk1 hFc hP1 hD1
          clear hPc hDc hFc hP1 hD1 hz1 hk1 hvm
          generalize H1 = H at hP hS ⊢
          have hP : va_P G.1 gCl [ai G h_aside 40 aside, oc h 9 [.ref h_s, .ref h_images, .int kept, .ref h_tape, .int typed, .ref h_draft, .int atv, .ref h_items, .ref h_moved, .ref h_sizes, .ref h_lanes, .ref h_less, .ref h_aside, .ref h_order], ai G h_s 161 u_14] H := hP
          have hD : va_D A [ai G h_aside 40 aside, oc h 9 [.ref h_s, .ref h_images, .int kept, .ref h_tape, .int typed, .ref h_draft, .int atv, .ref h_items, .ref h_moved, .ref h_sizes, .ref h_lanes, .ref h_less, .ref h_aside, .ref h_order], ai G h_s 161 u_14] := hD
          refine lv_istore (lv' := [(4, .int r_13), (2, .int x2), (3, .int r_11), (5, .int r_4), (0, .ref h), (1, .int p1)]) hx hb dX9_ease_68 hl (by decide) rfl (fun ls hl => ?_)
          refine lv_goto (tgt := 24) hx hb dX9_ease_70 (by decide) ?_
          exact ih u_14 aside x2 r_11 r_13 H locs (hP.sub [1, 2, 0] rfl) (hD.sub [1, 2, 0] (by decide) rfl) hS ls (lv_sub hl [4, 5, 1, 2, 0] rfl) hw
        · replace hw := hw.2 c_12
          refine lv_iload hx hb dX9_ease_57 (lv_at hl 1 rfl) ?_
          refine lv_goto (tgt := 63) hx hb dX9_ease_59 (by decide) ?_
          refine lv_istore_n (lv' := [(2, .int r_4), (3, .int r_11), (5, .int r_4), (0, .ref h), (1, .int p1), (4, .int x4)]) hx hb dX9_ease_63 rfl hl (by decide) rfl (fun ls hl => ?_)
          refine lv_aload_n hx hb dX9_ease_64 rfl (lv_at hl 3 rfl) ?_
          have hPc := hP.sub (ws' := [oc h 9 [.ref h_s, .ref h_images, .int kept, .ref h_tape, .int typed, .ref h_draft, .int atv, .ref h_items, .ref h_moved, .ref h_sizes, .ref h_lanes, .ref h_less, .ref h_aside, .ref h_order], ai G h_s 161 sv]) [1, 2] rfl
          have hDc := hD.sub (ws' := [oc h 9 [.ref h_s, .ref h_images, .int kept, .ref h_tape, .int typed, .ref h_draft, .int atv, .ref h_items, .ref h_moved, .ref h_sizes, .ref h_lanes, .ref h_less, .ref h_aside, .ref h_order], ai G h_s 161 sv]) [1, 2] (by decide) rfl
          have hFc := va_free (wc := [oc h 9 [.ref h_s, .ref h_images, .int kept, .ref h_tape, .int typed, .ref h_draft, .int atv, .ref h_items, .ref h_moved, .ref h_sizes, .ref h_lanes, .ref h_less, .ref h_aside, .ref h_order], ai G h_s 161 sv]) hD hS hA [1, 2] rfl
          refine va_calli (va_runV (As := []) (rest := []) ⟨hx, hb, hml, hown, hts⟩ (mt_X9_nextOrder l G h h_s h_images h_tape h_draft h_items h_moved h_sizes h_lanes h_less h_aside h_order H.size kept typed atv sv  _ hw) (cwV 0 hts (lw_V q1061 q1063 qs50 q65 q1064) rfl rfl rfl (by decide +kernel) ⟨Nat.le_of_ble_eq_true rfl, Nat.le_of_ble_eq_true rfl⟩) ⟨fun a U g mk q => by obtain ⟨q0, q1, qP, qK, qD⟩ := q; exact ⟨q0, q1, qP, qK.call, qD⟩, va_recv hK.1 hP (ci := 9) (q0 := 1) rfl rfl, fun U hU hW => ⟨rfl, by rw [hU], by rw [hU]; exact hPc, hK.warm hW, hDc.weaken (fun _ _ _ _ => trivial)⟩⟩ rfl rfl hl.1 rfl (lv_room (Nat.le_of_ble_eq_true rfl)) dX9_ease_65 ⟨Nat.le_of_ble_eq_true rfl, Nat.le_of_ble_eq_true rfl⟩) hS (fun q _ h => hFc q h) hFc (fun r_15 u_16 t H1 locs ht hvm hw hB hz1 hk1 hS => ?_)
          obtain ⟨hP1, hD1⟩ := hB
          rw [ht] at hP1
          obtain ⟨hP, hD⟩ := va_join (wr := [ai G h_aside 40 aside]) (w1 := [oc h 9 [.ref h_s, .ref h_images, .int kept, .ref h_tape, .int typed, .ref h_draft, .int atv, .ref h_items, .ref h_moved, .ref h_sizes, .ref h_lanes, .ref h_less, .ref h_aside, .ref h_order], ai G h_s 161 u_16]) hP hD [1, 2] [0] rfl rfl (by decide) (by decide) hk1 hFc hP1 hD1
          clear hPc hDc hFc hP1 hD1 hz1 hk1 hvm
          generalize H1 = H at hP hS ⊢
          have hP : va_P G.1 gCl [ai G h_aside 40 aside, oc h 9 [.ref h_s, .ref h_images, .int kept, .ref h_tape, .int typed, .ref h_draft, .int atv, .ref h_items, .ref h_moved, .ref h_sizes, .ref h_lanes, .ref h_less, .ref h_aside, .ref h_order], ai G h_s 161 u_16] H := hP
          have hD : va_D A [ai G h_aside 40 aside, oc h 9 [.ref h_s, .ref h_images, .int kept, .ref h_tape, .int typed, .ref h_draft, .int atv, .ref h_items, .ref h_moved, .ref h_sizes, .ref h_lanes, .ref h_less, .ref h_aside, .ref h_order], ai G h_s 161 u_16] := hD
          refine lv_istore (lv' := [(4, .int r_15), (2, .int r_4), (3, .int r_11), (5, .int r_4), (0, .ref h), (1, .int p1)]) hx hb dX9_ease_68 hl (by decide) rfl (fun ls hl => ?_)
          refine lv_goto (tgt := 24) hx hb dX9_ease_70 (by decide) ?_
          exact ih u_16 aside r_4 r_11 r_15 H locs (hP.sub [1, 2, 0] rfl) (hD.sub [1, 2, 0] (by decide) rfl) hS ls (lv_sub hl [4, 5, 1, 2, 0] rfl) hw
def wp_X9_ease (sv : Nat → Int32) (aside : Nat → Int32) (p1 : Int32) (Q : Int32 → ((Nat → Int32) × (Nat → Int32)) → Prop) : Prop :=
  ((((-1 : Int32) ≤ p1) → wp_X9_holds sv aside  (fun u_2 => wp_X9_firstOrder sv  (fun u_3 => (∃ j_ : Nat, wp_X9_ease_24 p1 Q  j_ u_3 u_2 (99 : Int32) (-4 : Int32) (1 : Int32))))) ∧ (¬ ((-1 : Int32) ≤ p1) → Q (-1 : Int32) (sv, aside)))
set_option maxHeartbeats 4000000 in
theorem mt_X9_ease (l : Launch) (G : GT) (h h_s h_images h_tape h_draft h_items h_moved h_sizes h_lanes h_less h_aside h_order : Nat) (sz : Nat) (kept : Int32) (typed : Int32) (atv : Int32) (sv : Nat → Int32) (aside : Nat → Int32) (p1 : Int32) (Q : Int32 → ((Nat → Int32) × (Nat → Int32)) → Prop) (hw : wp_X9_ease sv aside p1 Q) : Met l yX9_ease (ws_ yX9_ease cX9_ease 6 (some .int)) ({ frames := 2, cells := 0, slots := 0, locals := 51 } : Room) (va_Pc [.ref h, .int p1] (fun U => U.heap.size = sz ∧ va_P G.1 gCl [oc h 9 [.ref h_s, .ref h_images, .int kept, .ref h_tape, .int typed, .ref h_draft, .int atv, .ref h_items, .ref h_moved, .ref h_sizes, .ref h_lanes, .ref h_less, .ref h_aside, .ref h_order], ai G h_s 161 sv, ai G h_aside 40 aside] U.heap ∧ gK G U ∧ va_D (fun _ => True) [oc h 9 [.ref h_s, .ref h_images, .int kept, .ref h_tape, .int typed, .ref h_draft, .int atv, .ref h_items, .ref h_moved, .ref h_sizes, .ref h_lanes, .ref h_less, .ref h_aside, .ref h_order], ai G h_s 161 sv, ai G h_aside 40 aside])) ((fun A => (va_Qi (fun (r : Int32) (u : (Nat → Int32) × (Nat → Int32)) => Q r u) (fun u t => va_P G.1 gCl [oc h 9 [.ref h_s, .ref h_images, .int kept, .ref h_tape, .int typed, .ref h_draft, .int atv, .ref h_items, .ref h_moved, .ref h_sizes, .ref h_lanes, .ref h_less, .ref h_aside, .ref h_order], ai G h_s 161 u.1, ai G h_aside 40 u.2] t.heap ∧ va_D A [oc h 9 [.ref h_s, .ref h_images, .int kept, .ref h_tape, .int typed, .ref h_draft, .int atv, .ref h_items, .ref h_moved, .ref h_sizes, .ref h_lanes, .ref h_less, .ref h_aside, .ref h_order], ai G h_s 161 u.1, ai G h_aside 40 u.2]) A)) (va_A [oc h 9 [.ref h_s, .ref h_images, .int kept, .ref h_tape, .int typed, .ref h_draft, .int atv, .ref h_items, .ref h_moved, .ref h_sizes, .ref h_lanes, .ref h_less, .ref h_aside, .ref h_order], ai G h_s 161 sv, ai G h_aside 40 aside] sz)) 0 0 (va_A [oc h 9 [.ref h_s, .ref h_images, .int kept, .ref h_tape, .int typed, .ref h_draft, .int atv, .ref h_items, .ref h_moved, .ref h_sizes, .ref h_lanes, .ref h_less, .ref h_aside, .ref h_order], ai G h_s 161 sv, ai G h_aside 40 aside] sz) := by
  refine Met.ofW (cc := cX9_ease) (maxL := 6) (ret := (some .int)) (by decide) rfl ?_
  intro p e s m args below meth c s₁ B hml hv
  obtain ⟨rfl, hsz, hP, hK, hD0⟩ := hv
  have hx := B.exec
  have hb := B.bytes
  have hr := B.returns
  have hts := atoms_spec (ws := (ws_ yX9_ease cX9_ease 6 (some .int))) B.pre
  have hts : ∀ w ∈ lw_all, w.before _ s = true := fun w h => hts w (List.mem_cons_of_mem _ h)
  have hown : s.vm.findClass RX9 = some m.cls := findClass_of_methodNamed B.named
  have hlocks := B.notSynchronized
  subst hsz
  have hD := hD0.self (sz := s.heap.size)
  generalize hAe : va_A [oc h 9 [.ref h_s, .ref h_images, .int kept, .ref h_tape, .int typed, .ref h_draft, .int atv, .ref h_items, .ref h_moved, .ref h_sizes, .ref h_lanes, .ref h_less, .ref h_aside, .ref h_order], ai G h_s 161 sv, ai G h_aside 40 aside] s.heap.size = A at hD ⊢
  have hA : ∀ q : Nat, s.heap.size ≤ q → A q := fun q h => by rw [← hAe]; exact Or.inr h
  have hS : va_S A s.heap s.heap [] := va_S.rf
  have C : Cx p s m meth c cX9_ease 6 (some .int) RX9 ([.ref h, .int p1] : List Value).toArray G A := ⟨hx, hb, hr, hlocks, hml, hown, hts, hK, hA⟩
  have hl := lv_entry ([.ref h, .int p1]) (n := 6) (Nat.le_of_ble_eq_true rfl)
  rw [lg_entry_eq]
  generalize (lg_sl ([.ref h, .int p1]) ++ List.replicate (6 - (lg_sl ([.ref h, .int p1])).length) Slot.unset).toArray = ls at hl ⊢
  have hl : lv_has ls 6 [(0, .ref h), (1, .int p1)] := hl
  unfold wp_X9_ease at hw
  refine lv_iload_n hx hb dX9_ease_0 rfl (lv_at hl 1 rfl) ?_
  refine lv_iconst (v := (-1 : Int32)) hx hb dX9_ease_1 (by decide) ?_
  refine lv_icmp_ge (tgt := 7) hx hb dX9_ease_2 (by decide) (fun c_1 => ?_) (fun c_1 => ?_)
  · replace hw := hw.1 c_1
    refine lv_aload_n hx hb dX9_ease_7 rfl (lv_at hl 0 rfl) ?_
    have hPc := hP.sub (ws' := [oc h 9 [.ref h_s, .ref h_images, .int kept, .ref h_tape, .int typed, .ref h_draft, .int atv, .ref h_items, .ref h_moved, .ref h_sizes, .ref h_lanes, .ref h_less, .ref h_aside, .ref h_order], ai G h_s 161 sv, ai G h_aside 40 aside]) [0, 1, 2] rfl
    have hDc := hD.sub (ws' := [oc h 9 [.ref h_s, .ref h_images, .int kept, .ref h_tape, .int typed, .ref h_draft, .int atv, .ref h_items, .ref h_moved, .ref h_sizes, .ref h_lanes, .ref h_less, .ref h_aside, .ref h_order], ai G h_s 161 sv, ai G h_aside 40 aside]) [0, 1, 2] (by decide) rfl
    have hFc := va_free (wc := [oc h 9 [.ref h_s, .ref h_images, .int kept, .ref h_tape, .int typed, .ref h_draft, .int atv, .ref h_items, .ref h_moved, .ref h_sizes, .ref h_lanes, .ref h_less, .ref h_aside, .ref h_order], ai G h_s 161 sv, ai G h_aside 40 aside]) hD hS hA [0, 1, 2] rfl
    refine va_callv (va_runV (As := []) (rest := []) ⟨hx, hb, hml, hown, hts⟩ (mt_X9_holds l G h h_s h_images h_tape h_draft h_items h_moved h_sizes h_lanes h_less h_aside h_order s.heap.size kept typed atv sv aside  _ hw) (cwV 0 hts (lw_V q1010 q1012 qs45 q65 q1013) rfl rfl rfl (by decide +kernel) ⟨Nat.le_of_ble_eq_true rfl, Nat.le_of_ble_eq_true rfl⟩) ⟨fun a U g mk q => by obtain ⟨q0, q1, qP, qK, qD⟩ := q; exact ⟨q0, q1, qP, qK.call, qD⟩, va_recv hK.1 hP (ci := 9) (q0 := 0) rfl rfl, fun U hU hW => ⟨rfl, by rw [hU], by rw [hU]; exact hPc, hK.warm hW, hDc.weaken (fun _ _ _ _ => trivial)⟩⟩ rfl rfl hl.1 rfl (lv_room (Nat.le_of_ble_eq_true rfl)) dX9_ease_8 ⟨Nat.le_of_ble_eq_true rfl, Nat.le_of_ble_eq_true rfl⟩) hS (fun q _ h => hFc q h) hFc (fun u_2 t H1 locs ht hvm hw hB hz1 hk1 hS => ?_)
    obtain ⟨hP1, hD1⟩ := hB
    rw [ht] at hP1
    obtain ⟨hP, hD⟩ := va_join (wr := []) (w1 := [oc h 9 [.ref h_s, .ref h_images, .int kept, .ref h_tape, .int typed, .ref h_draft, .int atv, .ref h_items, .ref h_moved, .ref h_sizes, .ref h_lanes, .ref h_less, .ref h_aside, .ref h_order], ai G h_s 161 sv, ai G h_aside 40 u_2]) hP hD [0, 1, 2] [] rfl rfl (by decide) (by decide) hk1 hFc hP1 hD1
    clear hPc hDc hFc hP1 hD1 hz1 hk1 hvm
    generalize H1 = H at hP hS ⊢
    have hP : va_P G.1 gCl [oc h 9 [.ref h_s, .ref h_images, .int kept, .ref h_tape, .int typed, .ref h_draft, .int atv, .ref h_items, .ref h_moved, .ref h_sizes, .ref h_lanes, .ref h_less, .ref h_aside, .ref h_order], ai G h_s 161 sv, ai G h_aside 40 u_2] H := hP
    have hD : va_D A [oc h 9 [.ref h_s, .ref h_images, .int kept, .ref h_tape, .int typed, .ref h_draft, .int atv, .ref h_items, .ref h_moved, .ref h_sizes, .ref h_lanes, .ref h_less, .ref h_aside, .ref h_order], ai G h_s 161 sv, ai G h_aside 40 u_2] := hD
    refine lv_aload_n hx hb dX9_ease_11 rfl (lv_at hl 0 rfl) ?_
    have hPc := hP.sub (ws' := [oc h 9 [.ref h_s, .ref h_images, .int kept, .ref h_tape, .int typed, .ref h_draft, .int atv, .ref h_items, .ref h_moved, .ref h_sizes, .ref h_lanes, .ref h_less, .ref h_aside, .ref h_order], ai G h_s 161 sv]) [0, 1] rfl
    have hDc := hD.sub (ws' := [oc h 9 [.ref h_s, .ref h_images, .int kept, .ref h_tape, .int typed, .ref h_draft, .int atv, .ref h_items, .ref h_moved, .ref h_sizes, .ref h_lanes, .ref h_less, .ref h_aside, .ref h_order], ai G h_s 161 sv]) [0, 1] (by decide) rfl
    have hFc := va_free (wc := [oc h 9 [.ref h_s, .ref h_images, .int kept, .ref h_tape, .int typed, .ref h_draft, .int atv, .ref h_items, .ref h_moved, .ref h_sizes, .ref h_lanes, .ref h_less, .ref h_aside, .ref h_order], ai G h_s 161 sv]) hD hS hA [0, 1] rfl
    refine va_callv (va_runV (As := []) (rest := []) ⟨hx, hb, hml, hown, hts⟩ (mt_X9_firstOrder l G h h_s h_images h_tape h_draft h_items h_moved h_sizes h_lanes h_less h_aside h_order H.size kept typed atv sv  _ hw) (cwV 0 hts (lw_V q1057 q1059 qs49 q65 q1060) rfl rfl rfl (by decide +kernel) ⟨Nat.le_of_ble_eq_true rfl, Nat.le_of_ble_eq_true rfl⟩) ⟨fun a U g mk q => by obtain ⟨q0, q1, qP, qK, qD⟩ := q; exact ⟨q0, q1, qP, qK.call, qD⟩, va_recv hK.1 hP (ci := 9) (q0 := 0) rfl rfl, fun U hU hW => ⟨rfl, by rw [hU], by rw [hU]; exact hPc, hK.warm hW, hDc.weaken (fun _ _ _ _ => trivial)⟩⟩ rfl rfl hl.1 rfl (lv_room (Nat.le_of_ble_eq_true rfl)) dX9_ease_12 ⟨Nat.le_of_ble_eq_true rfl, Nat.le_of_ble_eq_true rfl⟩) hS (fun q _ h => hFc q h) hFc (fun u_3 t H1 locs ht hvm hw hB hz1 hk1 hS => ?_)
    obtain ⟨hP1, hD1⟩ := hB
    rw [ht] at hP1
    obtain ⟨hP, hD⟩ := va_join (wr := [ai G h_aside 40 u_2]) (w1 := [oc h 9 [.ref h_s, .ref h_images, .int kept, .ref h_tape, .int typed, .ref h_draft, .int atv, .ref h_items, .ref h_moved, .ref h_sizes, .ref h_lanes, .ref h_less, .ref h_aside, .ref h_order], ai G h_s 161 u_3]) hP hD [0, 1] [2] rfl rfl (by decide) (by decide) hk1 hFc hP1 hD1
    clear hPc hDc hFc hP1 hD1 hz1 hk1 hvm
    generalize H1 = H at hP hS ⊢
    have hP : va_P G.1 gCl [ai G h_aside 40 u_2, oc h 9 [.ref h_s, .ref h_images, .int kept, .ref h_tape, .int typed, .ref h_draft, .int atv, .ref h_items, .ref h_moved, .ref h_sizes, .ref h_lanes, .ref h_less, .ref h_aside, .ref h_order], ai G h_s 161 u_3] H := hP
    have hD : va_D A [ai G h_aside 40 u_2, oc h 9 [.ref h_s, .ref h_images, .int kept, .ref h_tape, .int typed, .ref h_draft, .int atv, .ref h_items, .ref h_moved, .ref h_sizes, .ref h_lanes, .ref h_less, .ref h_aside, .ref h_order], ai G h_s 161 u_3] := hD
    refine lv_bipush (v := (99 : Int32)) hx hb dX9_ease_15 (by decide) ?_
    refine lv_istore_n (lv' := [(2, .int (99 : Int32)), (0, .ref h), (1, .int p1)]) hx hb dX9_ease_17 rfl hl (by decide) rfl (fun ls hl => ?_)
    refine lv_bipush (v := (-4 : Int32)) hx hb dX9_ease_18 (by decide) ?_
    refine lv_istore_n (lv' := [(3, .int (-4 : Int32)), (2, .int (99 : Int32)), (0, .ref h), (1, .int p1)]) hx hb dX9_ease_20 rfl hl (by decide) rfl (fun ls hl => ?_)
    refine lv_iconst (v := (1 : Int32)) hx hb dX9_ease_21 (by decide) ?_
    refine lv_istore (lv' := [(4, .int (1 : Int32)), (3, .int (-4 : Int32)), (2, .int (99 : Int32)), (0, .ref h), (1, .int p1)]) hx hb dX9_ease_22 hl (by decide) rfl (fun ls hl => ?_)
    obtain ⟨j_, hw⟩ := hw
    exact wk_X9_ease_24 h h_s h_images h_tape h_draft h_items h_moved h_sizes h_lanes h_less h_aside h_order kept typed atv p1  Q  C  j_ u_3 u_2 (99 : Int32) (-4 : Int32) (1 : Int32) H locs (hP.sub [1, 2, 0] rfl) (hD.sub [1, 2, 0] (by decide) rfl) hS ls (lv_sub hl [3, 4, 2, 1, 0] rfl) hw
  · replace hw := hw.2 c_1
    refine lv_iconst (v := (-1 : Int32)) hx hb dX9_ease_5 (by decide) ?_
    have hP9 := hP
    have hD9 := hD
    exact W.iret (v := (-1 : Int32)) hx hb hr (fun t ht hW => ⟨⟨(-1 : Int32), (sv, aside), rfl, hw, by rw [ht]; exact hP9, hD9⟩, hS.F ht⟩) hS.2.2 dX9_ease_6
/-! BattleBenchModel.left(II)I -/
def wp_X9_left_148 (p1 : Int32) (p2 : Int32) (Q : Int32 → ((Nat → Int32) × (Nat → Int32) × (Nat → Int32) × (Nat → Int32)) → Prop) (K38 : (Nat → Int32) → (Nat → Int32) → (Nat → Int32) → (Nat → Int32) → Int32 → Int32 → Int32 → Int32 → Prop) : Nat → (Nat → Int32) → (Nat → Int32) → (Nat → Int32) → (Nat → Int32) → Int32 → Int32 → Int32 → Int32 → Prop
  | 0, _, _, _, _, _, _, _, _ => False
  | n + 1, sv, less, aside, order, x3, x4, x5, x8 =>
    ((((40 : Int32) ≤ x8) → wp_X9_nextOrder sv  (fun r_2 u_3 => K38 u_3 less aside order x3 x4 x5 r_2)) ∧ (¬ ((40 : Int32) ≤ x8) → (vp_in x8 40 ∧ (∀ v_5 : Int32, v_5 = (order x8.toNatClampNeg) → (vp_in x8 161 ∧ ∀ f_7 : Nat → Int32, f_7 = upd sv x8.toNatClampNeg v_5 → wp_X9_left_148 p1 p2 Q K38 n f_7 less aside order x3 x4 x5 (x8 + (1 : Int32)))))))
set_option maxHeartbeats 4000000 in
theorem wk_X9_left_148 {p : Program} {l : Launch} {e : Env} {s : State} {m : MethodId} {below : List Frame} {meth : Method} {c : Code} {args : Array Value} {G : GT} {A : Nat → Prop} (h h_s h_images h_tape h_draft h_items h_moved h_sizes h_lanes h_less h_aside h_order : Nat) (kept : Int32) (typed : Int32) (atv : Int32) (p1 : Int32) (p2 : Int32) (Q : Int32 → ((Nat → Int32) × (Nat → Int32) × (Nat → Int32) × (Nat → Int32)) → Prop) (K38 : (Nat → Int32) → (Nat → Int32) → (Nat → Int32) → (Nat → Int32) → Int32 → Int32 → Int32 → Int32 → Prop) (C : Cx p s m meth c cX9_left 9 (some .int) RX9 args G A) (hK38 : ∀  (sv : Nat → Int32) (less : Nat → Int32) (aside : Nat → Int32) (order : Nat → Int32) (x3 : Int32) (x4 : Int32) (x5 : Int32) (x6 : Int32) (H : Heap) (locs : List Loc), va_P G.1 gCl [oc h 9 [.ref h_s, .ref h_images, .int kept, .ref h_tape, .int typed, .ref h_draft, .int atv, .ref h_items, .ref h_moved, .ref h_sizes, .ref h_lanes, .ref h_less, .ref h_aside, .ref h_order], ai G h_s 161 sv, ai G h_less 6 less, ai G h_aside 40 aside, ai G h_order 40 order] H → va_D A [oc h 9 [.ref h_s, .ref h_images, .int kept, .ref h_tape, .int typed, .ref h_draft, .int atv, .ref h_items, .ref h_moved, .ref h_sizes, .ref h_lanes, .ref h_less, .ref h_aside, .ref h_order], ai G h_s 161 sv, ai G h_less 6 less, ai G h_aside 40 aside, ai G h_order 40 order] → va_S A s.heap H locs → ∀ (ls : Array Slot), lv_has ls 9 [(0, .ref h), (1, .int p1), (2, .int p2), (3, .int x3), (4, .int x4), (5, .int x5), (6, .int x6)] → K38 sv less aside order x3 x4 x5 x6 → W p l e ({ frames := 5, cells := 0, slots := 0, locals := 113 } : Room) s m args below meth c H locs 0 0 (MQ below (va_Qi (fun (r : Int32) (u : (Nat → Int32) × (Nat → Int32) × (Nat → Int32) × (Nat → Int32)) => Q r u) (fun u t => va_P G.1 gCl [oc h 9 [.ref h_s, .ref h_images, .int kept, .ref h_tape, .int typed, .ref h_draft, .int atv, .ref h_items, .ref h_moved, .ref h_sizes, .ref h_lanes, .ref h_less, .ref h_aside, .ref h_order], ai G h_s 161 u.1, ai G h_less 6 u.2.1, ai G h_aside 40 u.2.2.1, ai G h_order 40 u.2.2.2] t.heap ∧ va_D A [oc h 9 [.ref h_s, .ref h_images, .int kept, .ref h_tape, .int typed, .ref h_draft, .int atv, .ref h_items, .ref h_moved, .ref h_sizes, .ref h_lanes, .ref h_less, .ref h_aside, .ref h_order], ai G h_s 161 u.1, ai G h_less 6 u.2.1, ai G h_aside 40 u.2.2.1, ai G h_order 40 u.2.2.2]) A) args s 0 0 A) (F0 m 38 ls [])) :
    ∀ (n : Nat), ∀  (sv : Nat → Int32) (less : Nat → Int32) (aside : Nat → Int32) (order : Nat → Int32) (x3 : Int32) (x4 : Int32) (x5 : Int32) (x8 : Int32) (H : Heap) (locs : List Loc), va_P G.1 gCl [oc h 9 [.ref h_s, .ref h_images, .int kept, .ref h_tape, .int typed, .ref h_draft, .int atv, .ref h_items, .ref h_moved, .ref h_sizes, .ref h_lanes, .ref h_less, .ref h_aside, .ref h_order], ai G h_s 161 sv, ai G h_less 6 less, ai G h_aside 40 aside, ai G h_order 40 order] H → va_D A [oc h 9 [.ref h_s, .ref h_images, .int kept, .ref h_tape, .int typed, .ref h_draft, .int atv, .ref h_items, .ref h_moved, .ref h_sizes, .ref h_lanes, .ref h_less, .ref h_aside, .ref h_order], ai G h_s 161 sv, ai G h_less 6 less, ai G h_aside 40 aside, ai G h_order 40 order] → va_S A s.heap H locs → ∀ (ls : Array Slot), lv_has ls 9 [(0, .ref h), (1, .int p1), (2, .int p2), (3, .int x3), (4, .int x4), (5, .int x5), (8, .int x8)] → wp_X9_left_148 p1 p2 Q K38 n sv less aside order x3 x4 x5 x8 → W p l e ({ frames := 5, cells := 0, slots := 0, locals := 113 } : Room) s m args below meth c H locs 0 0 (MQ below (va_Qi (fun (r : Int32) (u : (Nat → Int32) × (Nat → Int32) × (Nat → Int32) × (Nat → Int32)) => Q r u) (fun u t => va_P G.1 gCl [oc h 9 [.ref h_s, .ref h_images, .int kept, .ref h_tape, .int typed, .ref h_draft, .int atv, .ref h_items, .ref h_moved, .ref h_sizes, .ref h_lanes, .ref h_less, .ref h_aside, .ref h_order], ai G h_s 161 u.1, ai G h_less 6 u.2.1, ai G h_aside 40 u.2.2.1, ai G h_order 40 u.2.2.2] t.heap ∧ va_D A [oc h 9 [.ref h_s, .ref h_images, .int kept, .ref h_tape, .int typed, .ref h_draft, .int atv, .ref h_items, .ref h_moved, .ref h_sizes, .ref h_lanes, .ref h_less, .ref h_aside, .ref h_order], ai G h_s 161 u.1, ai G h_less 6 u.2.1, ai G h_aside 40 u.2.2.1, ai G h_order 40 u.2.2.2]) A) args s 0 0 A) (F0 m 148 ls []) := by
  have C9 := C
  obtain ⟨hx, hb, hr, hlocks, hml, hown, hts, hK, hA⟩ := C9
  intro n
  induction n with
  | zero => intro sv less aside order x3 x4 x5 x8 H locs hP hD hS ls hl hw; exact False.elim hw
  | succ n ih =>
    intro sv less aside order x3 x4 x5 x8 H locs hP hD hS ls hl hw
    unfold wp_X9_left_148 at hw
    refine lv_iload hx hb dX9_left_148 (lv_at hl 6 rfl) ?_
    refine lv_bipush (v := (40 : Int32)) hx hb dX9_left_150 (by decide) ?_
    refine lv_icmp_ge (tgt := 175) hx hb dX9_left_152 (by decide) (fun c_1 => ?_) (fun c_1 => ?_)
    · replace hw := hw.1 c_1
      refine lv_aload_n hx hb dX9_left_175 rfl (lv_at hl 0 rfl) ?_
      have hPc := hP.sub (ws' := [oc h 9 [.ref h_s, .ref h_images, .int kept, .ref h_tape, .int typed, .ref h_draft, .int atv, .ref h_items, .ref h_moved, .ref h_sizes, .ref h_lanes, .ref h_less, .ref h_aside, .ref h_order], ai G h_s 161 sv]) [0, 1] rfl
      have hDc := hD.sub (ws' := [oc h 9 [.ref h_s, .ref h_images, .int kept, .ref h_tape, .int typed, .ref h_draft, .int atv, .ref h_items, .ref h_moved, .ref h_sizes, .ref h_lanes, .ref h_less, .ref h_aside, .ref h_order], ai G h_s 161 sv]) [0, 1] (by decide) rfl
      have hFc := va_free (wc := [oc h 9 [.ref h_s, .ref h_images, .int kept, .ref h_tape, .int typed, .ref h_draft, .int atv, .ref h_items, .ref h_moved, .ref h_sizes, .ref h_lanes, .ref h_less, .ref h_aside, .ref h_order], ai G h_s 161 sv]) hD hS hA [0, 1] rfl
      refine va_calli (va_runV (As := []) (rest := []) ⟨hx, hb, hml, hown, hts⟩ (mt_X9_nextOrder l G h h_s h_images h_tape h_draft h_items h_moved h_sizes h_lanes h_less h_aside h_order H.size kept typed atv sv  _ hw) (cwV 0 hts (lw_V q1061 q1063 qs50 q65 q1064) rfl rfl rfl (by decide +kernel) ⟨Nat.le_of_ble_eq_true rfl, Nat.le_of_ble_eq_true rfl⟩) ⟨fun a U g mk q => by obtain ⟨q0, q1, qP, qK, qD⟩ := q; exact ⟨q0, q1, qP, qK.call, qD⟩, va_recv hK.1 hP (ci := 9) (q0 := 0) rfl rfl, fun U hU hW => ⟨rfl, by rw [hU], by rw [hU]; exact hPc, hK.warm hW, hDc.weaken (fun _ _ _ _ => trivial)⟩⟩ rfl rfl hl.1 rfl (lv_room (Nat.le_of_ble_eq_true rfl)) dX9_left_176 ⟨Nat.le_of_ble_eq_true rfl, Nat.le_of_ble_eq_true rfl⟩) hS (fun q _ h => hFc q h) hFc (fun r_2 u_3 t H1 locs ht hvm hw hB hz1 hk1 hS => ?_)
      obtain ⟨hP1, hD1⟩ := hB
      rw [ht] at hP1
      obtain ⟨hP, hD⟩ := va_join (wr := [ai G h_less 6 less, ai G h_aside 40 aside, ai G h_order 40 order]) (w1 := [oc h 9 [.ref h_s, .ref h_images, .int kept, .ref h_tape, .int typed, .ref h_draft, .int atv, .ref h_items, .ref h_moved, .ref h_sizes, .ref h_lanes, .ref h_less, .ref h_aside, .ref h_order], ai G h_s 161 u_3]) hP hD [0, 1] [2, 3, 4] rfl rfl (by decide) (by decide) hk1 hFc hP1 hD1
      clear hPc hDc hFc hP1 hD1 hz1 hk1 hvm
      generalize H1 = H at hP hS ⊢
      have hP : va_P G.1 gCl [ai G h_less 6 less, ai G h_aside 40 aside, ai G h_order 40 order, oc h 9 [.ref h_s, .ref h_images, .int kept, .ref h_tape, .int typed, .ref h_draft, .int atv, .ref h_items, .ref h_moved, .ref h_sizes, .ref h_lanes, .ref h_less, .ref h_aside, .ref h_order], ai G h_s 161 u_3] H := hP
      have hD : va_D A [ai G h_less 6 less, ai G h_aside 40 aside, ai G h_order 40 order, oc h 9 [.ref h_s, .ref h_images, .int kept, .ref h_tape, .int typed, .ref h_draft, .int atv, .ref h_items, .ref h_moved, .ref h_sizes, .ref h_lanes, .ref h_less, .ref h_aside, .ref h_order], ai G h_s 161 u_3] := hD
      refine lv_istore (lv' := [(6, .int r_2), (0, .ref h), (1, .int p1), (2, .int p2), (3, .int x3), (4, .int x4), (5, .int x5), (8, .int x8)]) hx hb dX9_left_179 hl (by decide) rfl (fun ls hl => ?_)
      refine lv_goto (tgt := 38) hx hb dX9_left_181 (by decide) ?_
      exact hK38 u_3 less aside order x3 x4 x5 r_2 H locs (hP.sub [3, 4, 0, 1, 2] rfl) (hD.sub [3, 4, 0, 1, 2] (by decide) rfl) hS ls (lv_sub hl [1, 2, 3, 4, 5, 6, 0] rfl) hw
    · replace hw := hw.2 c_1
      refine lv_aload_n hx hb dX9_left_155 rfl (lv_at hl 0 rfl) ?_
      refine va_get (D := G.1) (ci := 9) (v := .ref h_s) (C := RX9) (T := TX9) (N := 14) hx hb hts in_X9 hown hK.1 hP 0 rfl rfl 0 (by decide) (hts _ q817) (fun _ h9 => h9) rfl dX9_left_156 ?_
      refine lv_iload hx hb dX9_left_159 (lv_at hl 6 rfl) ?_
      refine lv_aload_n hx hb dX9_left_161 rfl (lv_at hl 0 rfl) ?_
      refine va_get (D := G.1) (ci := 9) (v := .ref h_order) (C := RX9) (T := TX9) (N := 14) hx hb hts in_X9 hown hK.1 hP 0 rfl rfl 13 (by decide) (hts _ q830) (fun _ h9 => h9) rfl dX9_left_162 ?_
      refine lv_iload hx hb dX9_left_165 (lv_at hl 6 rfl) ?_
      obtain ⟨i_4, hw⟩ := hw
      refine z_iald hx hb hK.1 hP 4 0 rfl rfl i_4 dX9_left_167 (k := x8.toNatClampNeg) rfl ?_
      refine lv_topi (fun v_5 ev_5 => ?_)
      replace hw := hw v_5 ev_5
      obtain ⟨i_6, hw⟩ := hw
      refine z_iast hx hb hK.1 hP hD hS 1 0 rfl rfl i_6 dX9_left_168 (k := x8.toNatClampNeg) rfl (fun f_7 ef_7 H locs hP hD hS => ?_)
      replace hw := hw f_7 ef_7
      have hP : va_P G.1 gCl [oc h 9 [.ref h_s, .ref h_images, .int kept, .ref h_tape, .int typed, .ref h_draft, .int atv, .ref h_items, .ref h_moved, .ref h_sizes, .ref h_lanes, .ref h_less, .ref h_aside, .ref h_order], ai G h_s 161 f_7, ai G h_less 6 less, ai G h_aside 40 aside, ai G h_order 40 order] H := hP
      have hD : va_D A [oc h 9 [.ref h_s, .ref h_images, .int kept, .ref h_tape, .int typed, .ref h_draft, .int atv, .ref h_items, .ref h_moved, .ref h_sizes, .ref h_lanes, .ref h_less, .ref h_aside, .ref h_order], ai G h_s 161 f_7, ai G h_less 6 less, ai G h_aside 40 aside, ai G h_order 40 order] := hD
      refine lv_iinc (v := (x8 + (1 : Int32))) (lv' := [(8, .int (x8 + (1 : Int32))), (0, .ref h), (1, .int p1), (2, .int p2), (3, .int x3), (4, .int x4), (5, .int x5)]) hx hb dX9_left_169 hl (k := 6) rfl rfl (by decide) rfl (fun ls hl => ?_)
      refine lv_goto (tgt := 148) hx hb dX9_left_172 (by decide) ?_
      exact ih f_7 less aside order x3 x4 x5 (x8 + (1 : Int32)) H locs hP hD hS ls (lv_sub hl [1, 2, 3, 4, 5, 6, 0] rfl) hw
def wp_X9_left_83 (p1 : Int32) (p2 : Int32) (Q : Int32 → ((Nat → Int32) × (Nat → Int32) × (Nat → Int32) × (Nat → Int32)) → Prop) (K38 : (Nat → Int32) → (Nat → Int32) → (Nat → Int32) → (Nat → Int32) → Int32 → Int32 → Int32 → Int32 → Prop) : Nat → (Nat → Int32) → (Nat → Int32) → (Nat → Int32) → (Nat → Int32) → Int32 → Int32 → Int32 → Int32 → Int32 → Prop
  | 0, _, _, _, _, _, _, _, _, _ => False
  | n + 1, sv, less, aside, order, x3, x4, x5, x7, x8 =>
    (((p1 ≤ x8) → (((x3 < (sv 1)) → (∀ v_3 : Int32, v_3 = (sv 1) → wp_X9_lives sv  (fun r_4 => (∃ j_ : Nat, wp_X9_left_148 p1 p2 Q K38 j_ sv less aside order v_3 r_4 x7 (0 : Int32))))) ∧ (¬ (x3 < (sv 1)) → ((¬ ((sv 1) = x3) → (∃ j_ : Nat, wp_X9_left_148 p1 p2 Q K38 j_ sv less aside order x3 x4 x5 (0 : Int32))) ∧ (((sv 1) = x3) → wp_X9_lives sv  (fun r_6 => (((r_6 ≤ x4) → (∃ j_ : Nat, wp_X9_left_148 p1 p2 Q K38 j_ sv less aside order x3 x4 x5 (0 : Int32))) ∧ (¬ (r_6 ≤ x4) → (∀ v_8 : Int32, v_8 = (sv 1) → wp_X9_lives sv  (fun r_9 => (∃ j_ : Nat, wp_X9_left_148 p1 p2 Q K38 j_ sv less aside order v_8 r_9 x7 (0 : Int32)))))))))))) ∧ (¬ (p1 ≤ x8) → wp_X9_passes sv less  (fun u_10 => wp_X9_left_83 p1 p2 Q K38 n u_10.1 u_10.2 aside order x3 x4 x5 x7 (x8 + (1 : Int32)))))
set_option maxHeartbeats 4000000 in
theorem wk_X9_left_83 {p : Program} {l : Launch} {e : Env} {s : State} {m : MethodId} {below : List Frame} {meth : Method} {c : Code} {args : Array Value} {G : GT} {A : Nat → Prop} (h h_s h_images h_tape h_draft h_items h_moved h_sizes h_lanes h_less h_aside h_order : Nat) (kept : Int32) (typed : Int32) (atv : Int32) (p1 : Int32) (p2 : Int32) (Q : Int32 → ((Nat → Int32) × (Nat → Int32) × (Nat → Int32) × (Nat → Int32)) → Prop) (K38 : (Nat → Int32) → (Nat → Int32) → (Nat → Int32) → (Nat → Int32) → Int32 → Int32 → Int32 → Int32 → Prop) (C : Cx p s m meth c cX9_left 9 (some .int) RX9 args G A) (hK38 : ∀  (sv : Nat → Int32) (less : Nat → Int32) (aside : Nat → Int32) (order : Nat → Int32) (x3 : Int32) (x4 : Int32) (x5 : Int32) (x6 : Int32) (H : Heap) (locs : List Loc), va_P G.1 gCl [oc h 9 [.ref h_s, .ref h_images, .int kept, .ref h_tape, .int typed, .ref h_draft, .int atv, .ref h_items, .ref h_moved, .ref h_sizes, .ref h_lanes, .ref h_less, .ref h_aside, .ref h_order], ai G h_s 161 sv, ai G h_less 6 less, ai G h_aside 40 aside, ai G h_order 40 order] H → va_D A [oc h 9 [.ref h_s, .ref h_images, .int kept, .ref h_tape, .int typed, .ref h_draft, .int atv, .ref h_items, .ref h_moved, .ref h_sizes, .ref h_lanes, .ref h_less, .ref h_aside, .ref h_order], ai G h_s 161 sv, ai G h_less 6 less, ai G h_aside 40 aside, ai G h_order 40 order] → va_S A s.heap H locs → ∀ (ls : Array Slot), lv_has ls 9 [(0, .ref h), (1, .int p1), (2, .int p2), (3, .int x3), (4, .int x4), (5, .int x5), (6, .int x6)] → K38 sv less aside order x3 x4 x5 x6 → W p l e ({ frames := 5, cells := 0, slots := 0, locals := 113 } : Room) s m args below meth c H locs 0 0 (MQ below (va_Qi (fun (r : Int32) (u : (Nat → Int32) × (Nat → Int32) × (Nat → Int32) × (Nat → Int32)) => Q r u) (fun u t => va_P G.1 gCl [oc h 9 [.ref h_s, .ref h_images, .int kept, .ref h_tape, .int typed, .ref h_draft, .int atv, .ref h_items, .ref h_moved, .ref h_sizes, .ref h_lanes, .ref h_less, .ref h_aside, .ref h_order], ai G h_s 161 u.1, ai G h_less 6 u.2.1, ai G h_aside 40 u.2.2.1, ai G h_order 40 u.2.2.2] t.heap ∧ va_D A [oc h 9 [.ref h_s, .ref h_images, .int kept, .ref h_tape, .int typed, .ref h_draft, .int atv, .ref h_items, .ref h_moved, .ref h_sizes, .ref h_lanes, .ref h_less, .ref h_aside, .ref h_order], ai G h_s 161 u.1, ai G h_less 6 u.2.1, ai G h_aside 40 u.2.2.1, ai G h_order 40 u.2.2.2]) A) args s 0 0 A) (F0 m 38 ls [])) :
    ∀ (n : Nat), ∀  (sv : Nat → Int32) (less : Nat → Int32) (aside : Nat → Int32) (order : Nat → Int32) (x3 : Int32) (x4 : Int32) (x5 : Int32) (x7 : Int32) (x8 : Int32) (H : Heap) (locs : List Loc), va_P G.1 gCl [oc h 9 [.ref h_s, .ref h_images, .int kept, .ref h_tape, .int typed, .ref h_draft, .int atv, .ref h_items, .ref h_moved, .ref h_sizes, .ref h_lanes, .ref h_less, .ref h_aside, .ref h_order], ai G h_s 161 sv, ai G h_less 6 less, ai G h_aside 40 aside, ai G h_order 40 order] H → va_D A [oc h 9 [.ref h_s, .ref h_images, .int kept, .ref h_tape, .int typed, .ref h_draft, .int atv, .ref h_items, .ref h_moved, .ref h_sizes, .ref h_lanes, .ref h_less, .ref h_aside, .ref h_order], ai G h_s 161 sv, ai G h_less 6 less, ai G h_aside 40 aside, ai G h_order 40 order] → va_S A s.heap H locs → ∀ (ls : Array Slot), lv_has ls 9 [(0, .ref h), (1, .int p1), (2, .int p2), (3, .int x3), (4, .int x4), (5, .int x5), (7, .int x7), (8, .int x8)] → wp_X9_left_83 p1 p2 Q K38 n sv less aside order x3 x4 x5 x7 x8 → W p l e ({ frames := 5, cells := 0, slots := 0, locals := 113 } : Room) s m args below meth c H locs 0 0 (MQ below (va_Qi (fun (r : Int32) (u : (Nat → Int32) × (Nat → Int32) × (Nat → Int32) × (Nat → Int32)) => Q r u) (fun u t => va_P G.1 gCl [oc h 9 [.ref h_s, .ref h_images, .int kept, .ref h_tape, .int typed, .ref h_draft, .int atv, .ref h_items, .ref h_moved, .ref h_sizes, .ref h_lanes, .ref h_less, .ref h_aside, .ref h_order], ai G h_s 161 u.1, ai G h_less 6 u.2.1, ai G h_aside 40 u.2.2.1, ai G h_order 40 u.2.2.2] t.heap ∧ va_D A [oc h 9 [.ref h_s, .ref h_images, .int kept, .ref h_tape, .int typed, .ref h_draft, .int atv, .ref h_items, .ref h_moved, .ref h_sizes, .ref h_lanes, .ref h_less, .ref h_aside, .ref h_order], ai G h_s 161 u.1, ai G h_less 6 u.2.1, ai G h_aside 40 u.2.2.1, ai G h_order 40 u.2.2.2]) A) args s 0 0 A) (F0 m 83 ls []) := by
  have C9 := C
  obtain ⟨hx, hb, hr, hlocks, hml, hown, hts, hK, hA⟩ := C9
  intro n
  induction n with
  | zero => intro sv less aside order x3 x4 x5 x7 x8 H locs hP hD hS ls hl hw; exact False.elim hw
  | succ n ih =>
    intro sv less aside order x3 x4 x5 x7 x8 H locs hP hD hS ls hl hw
    unfold wp_X9_left_83 at hw
    refine lv_iload hx hb dX9_left_83 (lv_at hl 7 rfl) ?_
    refine lv_iload_n hx hb dX9_left_85 rfl (lv_at hl 1 rfl) ?_
    refine lv_icmp_ge (tgt := 99) hx hb dX9_left_86 (by decide) (fun c_1 => ?_) (fun c_1 => ?_)
    · replace hw := hw.1 c_1
      refine lv_aload_n hx hb dX9_left_99 rfl (lv_at hl 0 rfl) ?_
      refine va_get (D := G.1) (ci := 9) (v := .ref h_s) (C := RX9) (T := TX9) (N := 14) hx hb hts in_X9 hown hK.1 hP 0 rfl rfl 0 (by decide) (hts _ q817) (fun _ h9 => h9) rfl dX9_left_100 ?_
      refine lv_iconst (v := (1 : Int32)) hx hb dX9_left_103 (by decide) ?_
      refine z_iald hx hb hK.1 hP 1 0 rfl rfl (vin_l (by decide +kernel)) dX9_left_104 (k := 1) rfl ?_
      refine lv_iload_n hx hb dX9_left_105 rfl (lv_at hl 3 rfl) ?_
      refine lv_icmp_gt (tgt := 128) hx hb dX9_left_106 (by decide) (fun c_2 => ?_) (fun c_2 => ?_)
      · replace hw := hw.1 c_2
        refine lv_aload_n hx hb dX9_left_128 rfl (lv_at hl 0 rfl) ?_
        refine va_get (D := G.1) (ci := 9) (v := .ref h_s) (C := RX9) (T := TX9) (N := 14) hx hb hts in_X9 hown hK.1 hP 0 rfl rfl 0 (by decide) (hts _ q817) (fun _ h9 => h9) rfl dX9_left_129 ?_
        refine lv_iconst (v := (1 : Int32)) hx hb dX9_left_132 (by decide) ?_
        refine z_iald hx hb hK.1 hP 1 0 rfl rfl (vin_l (by decide +kernel)) dX9_left_133 (k := 1) rfl ?_
        refine lv_topi (fun v_3 ev_3 => ?_)
        replace hw := hw v_3 ev_3
        refine lv_istore_n (lv' := [(3, .int v_3), (0, .ref h), (1, .int p1), (2, .int p2), (4, .int x4), (5, .int x5), (7, .int x7), (8, .int x8)]) hx hb dX9_left_134 rfl hl (by decide) rfl (fun ls hl => ?_)
        refine lv_aload_n hx hb dX9_left_135 rfl (lv_at hl 1 rfl) ?_
        have hPc := hP.sub (ws' := [oc h 9 [.ref h_s, .ref h_images, .int kept, .ref h_tape, .int typed, .ref h_draft, .int atv, .ref h_items, .ref h_moved, .ref h_sizes, .ref h_lanes, .ref h_less, .ref h_aside, .ref h_order], ai G h_s 161 sv]) [0, 1] rfl
        have hDc := hD.sub (ws' := [oc h 9 [.ref h_s, .ref h_images, .int kept, .ref h_tape, .int typed, .ref h_draft, .int atv, .ref h_items, .ref h_moved, .ref h_sizes, .ref h_lanes, .ref h_less, .ref h_aside, .ref h_order], ai G h_s 161 sv]) [0, 1] (by decide) rfl
        have hFc := va_free (wc := [oc h 9 [.ref h_s, .ref h_images, .int kept, .ref h_tape, .int typed, .ref h_draft, .int atv, .ref h_items, .ref h_moved, .ref h_sizes, .ref h_lanes, .ref h_less, .ref h_aside, .ref h_order], ai G h_s 161 sv]) hD hS hA [0, 1] rfl
        refine va_calli (va_runV (As := []) (rest := []) ⟨hx, hb, hml, hown, hts⟩ (mt_X9_lives l G h h_s h_images h_tape h_draft h_items h_moved h_sizes h_lanes h_less h_aside h_order H.size kept typed atv sv  _ hw) (cwV 0 hts (lw_V q956 q958 qs40 q65 q959) rfl rfl rfl (by decide +kernel) ⟨Nat.le_of_ble_eq_true rfl, Nat.le_of_ble_eq_true rfl⟩) ⟨fun a U g mk q => by obtain ⟨q0, q1, qP, qK, qD⟩ := q; exact ⟨q0, q1, qP, qK.call, qD⟩, va_recv hK.1 hP (ci := 9) (q0 := 0) rfl rfl, fun U hU hW => ⟨rfl, by rw [hU], by rw [hU]; exact hPc, hK.warm hW, hDc.weaken (fun _ _ _ _ => trivial)⟩⟩ rfl rfl hl.1 rfl (lv_room (Nat.le_of_ble_eq_true rfl)) dX9_left_136 ⟨Nat.le_of_ble_eq_true rfl, Nat.le_of_ble_eq_true rfl⟩) hS (fun q _ h => hFc q h) hFc (fun r_4 _ t H1 locs ht hvm hw hB hz1 hk1 hS => ?_)
        obtain ⟨hP1, hD1⟩ := hB
        rw [ht] at hP1
        obtain ⟨hP, hD⟩ := va_join (wr := [ai G h_less 6 less, ai G h_aside 40 aside, ai G h_order 40 order]) (w1 := [oc h 9 [.ref h_s, .ref h_images, .int kept, .ref h_tape, .int typed, .ref h_draft, .int atv, .ref h_items, .ref h_moved, .ref h_sizes, .ref h_lanes, .ref h_less, .ref h_aside, .ref h_order], ai G h_s 161 sv]) hP hD [0, 1] [2, 3, 4] rfl rfl (by decide) (by decide) hk1 hFc hP1 hD1
        clear hPc hDc hFc hP1 hD1 hz1 hk1 hvm
        generalize H1 = H at hP hS ⊢
        have hP : va_P G.1 gCl [ai G h_less 6 less, ai G h_aside 40 aside, ai G h_order 40 order, oc h 9 [.ref h_s, .ref h_images, .int kept, .ref h_tape, .int typed, .ref h_draft, .int atv, .ref h_items, .ref h_moved, .ref h_sizes, .ref h_lanes, .ref h_less, .ref h_aside, .ref h_order], ai G h_s 161 sv] H := hP
        have hD : va_D A [ai G h_less 6 less, ai G h_aside 40 aside, ai G h_order 40 order, oc h 9 [.ref h_s, .ref h_images, .int kept, .ref h_tape, .int typed, .ref h_draft, .int atv, .ref h_items, .ref h_moved, .ref h_sizes, .ref h_lanes, .ref h_less, .ref h_aside, .ref h_order], ai G h_s 161 sv] := hD
        refine lv_istore (lv' := [(4, .int r_4), (3, .int v_3), (0, .ref h), (1, .int p1), (2, .int p2), (5, .int x5), (7, .int x7), (8, .int x8)]) hx hb dX9_left_139 hl (by decide) rfl (fun ls hl => ?_)
        refine lv_iload hx hb dX9_left_141 (lv_at hl 6 rfl) ?_
        refine lv_istore (lv' := [(5, .int x7), (4, .int r_4), (3, .int v_3), (0, .ref h), (1, .int p1), (2, .int p2), (7, .int x7), (8, .int x8)]) hx hb dX9_left_143 hl (by decide) rfl (fun ls hl => ?_)
        refine lv_iconst (v := (0 : Int32)) hx hb dX9_left_145 (by decide) ?_
        refine lv_istore (lv' := [(8, .int (0 : Int32)), (5, .int x7), (4, .int r_4), (3, .int v_3), (0, .ref h), (1, .int p1), (2, .int p2), (7, .int x7)]) hx hb dX9_left_146 hl (by decide) rfl (fun ls hl => ?_)
        obtain ⟨j_, hw⟩ := hw
        exact wk_X9_left_148 h h_s h_images h_tape h_draft h_items h_moved h_sizes h_lanes h_less h_aside h_order kept typed atv p1 p2  Q K38 C hK38 j_ sv less aside order v_3 r_4 x7 (0 : Int32) H locs (hP.sub [3, 4, 0, 1, 2] rfl) (hD.sub [3, 4, 0, 1, 2] (by decide) rfl) hS ls (lv_sub hl [4, 5, 6, 3, 2, 1, 0] rfl) hw
      · replace hw := hw.2 c_2
        refine lv_aload_n hx hb dX9_left_109 rfl (lv_at hl 0 rfl) ?_
        refine va_get (D := G.1) (ci := 9) (v := .ref h_s) (C := RX9) (T := TX9) (N := 14) hx hb hts in_X9 hown hK.1 hP 0 rfl rfl 0 (by decide) (hts _ q817) (fun _ h9 => h9) rfl dX9_left_110 ?_
        refine lv_iconst (v := (1 : Int32)) hx hb dX9_left_113 (by decide) ?_
        refine z_iald hx hb hK.1 hP 1 0 rfl rfl (vin_l (by decide +kernel)) dX9_left_114 (k := 1) rfl ?_
        refine lv_iload_n hx hb dX9_left_115 rfl (lv_at hl 3 rfl) ?_
        refine lv_icmp_ne (tgt := 145) hx hb dX9_left_116 (by decide) (fun c_5 => ?_) (fun c_5 => ?_)
        · replace hw := hw.1 c_5
          refine lv_iconst (v := (0 : Int32)) hx hb dX9_left_145 (by decide) ?_
          refine lv_istore (lv' := [(8, .int (0 : Int32)), (0, .ref h), (1, .int p1), (2, .int p2), (3, .int x3), (4, .int x4), (5, .int x5), (7, .int x7)]) hx hb dX9_left_146 hl (by decide) rfl (fun ls hl => ?_)
          obtain ⟨j_, hw⟩ := hw
          exact wk_X9_left_148 h h_s h_images h_tape h_draft h_items h_moved h_sizes h_lanes h_less h_aside h_order kept typed atv p1 p2  Q K38 C hK38 j_ sv less aside order x3 x4 x5 (0 : Int32) H locs hP hD hS ls (lv_sub hl [1, 2, 3, 4, 5, 6, 0] rfl) hw
        · replace hw := hw.2 c_5
          refine lv_aload_n hx hb dX9_left_119 rfl (lv_at hl 0 rfl) ?_
          have hPc := hP.sub (ws' := [oc h 9 [.ref h_s, .ref h_images, .int kept, .ref h_tape, .int typed, .ref h_draft, .int atv, .ref h_items, .ref h_moved, .ref h_sizes, .ref h_lanes, .ref h_less, .ref h_aside, .ref h_order], ai G h_s 161 sv]) [0, 1] rfl
          have hDc := hD.sub (ws' := [oc h 9 [.ref h_s, .ref h_images, .int kept, .ref h_tape, .int typed, .ref h_draft, .int atv, .ref h_items, .ref h_moved, .ref h_sizes, .ref h_lanes, .ref h_less, .ref h_aside, .ref h_order], ai G h_s 161 sv]) [0, 1] (by decide) rfl
          have hFc := va_free (wc := [oc h 9 [.ref h_s, .ref h_images, .int kept, .ref h_tape, .int typed, .ref h_draft, .int atv, .ref h_items, .ref h_moved, .ref h_sizes, .ref h_lanes, .ref h_less, .ref h_aside, .ref h_order], ai G h_s 161 sv]) hD hS hA [0, 1] rfl
          refine va_calli (va_runV (As := []) (rest := []) ⟨hx, hb, hml, hown, hts⟩ (mt_X9_lives l G h h_s h_images h_tape h_draft h_items h_moved h_sizes h_lanes h_less h_aside h_order H.size kept typed atv sv  _ hw) (cwV 0 hts (lw_V q956 q958 qs40 q65 q959) rfl rfl rfl (by decide +kernel) ⟨Nat.le_of_ble_eq_true rfl, Nat.le_of_ble_eq_true rfl⟩) ⟨fun a U g mk q => by obtain ⟨q0, q1, qP, qK, qD⟩ := q; exact ⟨q0, q1, qP, qK.call, qD⟩, va_recv hK.1 hP (ci := 9) (q0 := 0) rfl rfl, fun U hU hW => ⟨rfl, by rw [hU], by rw [hU]; exact hPc, hK.warm hW, hDc.weaken (fun _ _ _ _ => trivial)⟩⟩ rfl rfl hl.1 rfl (lv_room (Nat.le_of_ble_eq_true rfl)) dX9_left_120 ⟨Nat.le_of_ble_eq_true rfl, Nat.le_of_ble_eq_true rfl⟩) hS (fun q _ h => hFc q h) hFc (fun r_6 _ t H1 locs ht hvm hw hB hz1 hk1 hS => ?_)
          obtain ⟨hP1, hD1⟩ := hB
          rw [ht] at hP1
          obtain ⟨hP, hD⟩ := va_join (wr := [ai G h_less 6 less, ai G h_aside 40 aside, ai G h_order 40 order]) (w1 := [oc h 9 [.ref h_s, .ref h_images, .int kept, .ref h_tape, .int typed, .ref h_draft, .int atv, .ref h_items, .ref h_moved, .ref h_sizes, .ref h_lanes, .ref h_less, .ref h_aside, .ref h_order], ai G h_s 161 sv]) hP hD [0, 1] [2, 3, 4] rfl rfl (by decide) (by decide) hk1 hFc hP1 hD1
          clear hPc hDc hFc hP1 hD1 hz1 hk1 hvm
          generalize H1 = H at hP hS ⊢
          have hP : va_P G.1 gCl [ai G h_less 6 less, ai G h_aside 40 aside, ai G h_order 40 order, oc h 9 [.ref h_s, .ref h_images, .int kept, .ref h_tape, .int typed, .ref h_draft, .int atv, .ref h_items, .ref h_moved, .ref h_sizes, .ref h_lanes, .ref h_less, .ref h_aside, .ref h_order], ai G h_s 161 sv] H := hP
          have hD : va_D A [ai G h_less 6 less, ai G h_aside 40 aside, ai G h_order 40 order, oc h 9 [.ref h_s, .ref h_images, .int kept, .ref h_tape, .int typed, .ref h_draft, .int atv, .ref h_items, .ref h_moved, .ref h_sizes, .ref h_lanes, .ref h_less, .ref h_aside, .ref h_order], ai G h_s 161 sv] := hD
          refine lv_iload hx hb dX9_left_123 (lv_at hl 4 rfl) ?_
          refine lv_icmp_le (tgt := 145) hx hb dX9_left_125 (by decide) (fun c_7 => ?_) (fun c_7 => ?_)
          · replace hw := hw.1 c_7
            refine lv_iconst (v := (0 : Int32)) hx hb dX9_left_145 (by decide) ?_
            refine lv_istore (lv' := [(8, .int (0 : Int32)), (0, .ref h), (1, .int p1), (2, .int p2), (3, .int x3), (4, .int x4), (5, .int x5), (7, .int x7)]) hx hb dX9_left_146 hl (by decide) rfl (fun ls hl => ?_)
            obtain ⟨j_, hw⟩ := hw
            exact wk_X9_left_148 h h_s h_images h_tape h_draft h_items h_moved h_sizes h_lanes h_less h_aside h_order kept typed atv p1 p2  Q K38 C hK38 j_ sv less aside order x3 x4 x5 (0 : Int32) H locs (hP.sub [3, 4, 0, 1, 2] rfl) (hD.sub [3, 4, 0, 1, 2] (by decide) rfl) hS ls (lv_sub hl [1, 2, 3, 4, 5, 6, 0] rfl) hw
          · replace hw := hw.2 c_7
            refine lv_aload_n hx hb dX9_left_128 rfl (lv_at hl 0 rfl) ?_
            refine va_get (D := G.1) (ci := 9) (v := .ref h_s) (C := RX9) (T := TX9) (N := 14) hx hb hts in_X9 hown hK.1 hP 3 rfl rfl 0 (by decide) (hts _ q817) (fun _ h9 => h9) rfl dX9_left_129 ?_
            refine lv_iconst (v := (1 : Int32)) hx hb dX9_left_132 (by decide) ?_
            refine z_iald hx hb hK.1 hP 4 0 rfl rfl (vin_l (by decide +kernel)) dX9_left_133 (k := 1) rfl ?_
            refine lv_topi (fun v_8 ev_8 => ?_)
            replace hw := hw v_8 ev_8
            refine lv_istore_n (lv' := [(3, .int v_8), (0, .ref h), (1, .int p1), (2, .int p2), (4, .int x4), (5, .int x5), (7, .int x7), (8, .int x8)]) hx hb dX9_left_134 rfl hl (by decide) rfl (fun ls hl => ?_)
            refine lv_aload_n hx hb dX9_left_135 rfl (lv_at hl 1 rfl) ?_
            have hPc := hP.sub (ws' := [oc h 9 [.ref h_s, .ref h_images, .int kept, .ref h_tape, .int typed, .ref h_draft, .int atv, .ref h_items, .ref h_moved, .ref h_sizes, .ref h_lanes, .ref h_less, .ref h_aside, .ref h_order], ai G h_s 161 sv]) [3, 4] rfl
            have hDc := hD.sub (ws' := [oc h 9 [.ref h_s, .ref h_images, .int kept, .ref h_tape, .int typed, .ref h_draft, .int atv, .ref h_items, .ref h_moved, .ref h_sizes, .ref h_lanes, .ref h_less, .ref h_aside, .ref h_order], ai G h_s 161 sv]) [3, 4] (by decide) rfl
            have hFc := va_free (wc := [oc h 9 [.ref h_s, .ref h_images, .int kept, .ref h_tape, .int typed, .ref h_draft, .int atv, .ref h_items, .ref h_moved, .ref h_sizes, .ref h_lanes, .ref h_less, .ref h_aside, .ref h_order], ai G h_s 161 sv]) hD hS hA [3, 4] rfl
            refine va_calli (va_runV (As := []) (rest := []) ⟨hx, hb, hml, hown, hts⟩ (mt_X9_lives l G h h_s h_images h_tape h_draft h_items h_moved h_sizes h_lanes h_less h_aside h_order H.size kept typed atv sv  _ hw) (cwV 0 hts (lw_V q956 q958 qs40 q65 q959) rfl rfl rfl (by decide +kernel) ⟨Nat.le_of_ble_eq_true rfl, Nat.le_of_ble_eq_true rfl⟩) ⟨fun a U g mk q => by obtain ⟨q0, q1, qP, qK, qD⟩ := q; exact ⟨q0, q1, qP, qK.call, qD⟩, va_recv hK.1 hP (ci := 9) (q0 := 3) rfl rfl, fun U hU hW => ⟨rfl, by rw [hU], by rw [hU]; exact hPc, hK.warm hW, hDc.weaken (fun _ _ _ _ => trivial)⟩⟩ rfl rfl hl.1 rfl (lv_room (Nat.le_of_ble_eq_true rfl)) dX9_left_136 ⟨Nat.le_of_ble_eq_true rfl, Nat.le_of_ble_eq_true rfl⟩) hS (fun q _ h => hFc q h) hFc (fun r_9 _ t H1 locs ht hvm hw hB hz1 hk1 hS => ?_)
            obtain ⟨hP1, hD1⟩ := hB
            rw [ht] at hP1
            obtain ⟨hP, hD⟩ := va_join (wr := [ai G h_less 6 less, ai G h_aside 40 aside, ai G h_order 40 order]) (w1 := [oc h 9 [.ref h_s, .ref h_images, .int kept, .ref h_tape, .int typed, .ref h_draft, .int atv, .ref h_items, .ref h_moved, .ref h_sizes, .ref h_lanes, .ref h_less, .ref h_aside, .ref h_order], ai G h_s 161 sv]) hP hD [3, 4] [0, 1, 2] rfl rfl (by decide) (by decide) hk1 hFc hP1 hD1
            clear hPc hDc hFc hP1 hD1 hz1 hk1 hvm
            generalize H1 = H at hP hS ⊢
            have hP : va_P G.1 gCl [ai G h_less 6 less, ai G h_aside 40 aside, ai G h_order 40 order, oc h 9 [.ref h_s, .ref h_images, .int kept, .ref h_tape, .int typed, .ref h_draft, .int atv, .ref h_items, .ref h_moved, .ref h_sizes, .ref h_lanes, .ref h_less, .ref h_aside, .ref h_order], ai G h_s 161 sv] H := hP
            have hD : va_D A [ai G h_less 6 less, ai G h_aside 40 aside, ai G h_order 40 order, oc h 9 [.ref h_s, .ref h_images, .int kept, .ref h_tape, .int typed, .ref h_draft, .int atv, .ref h_items, .ref h_moved, .ref h_sizes, .ref h_lanes, .ref h_less, .ref h_aside, .ref h_order], ai G h_s 161 sv] := hD
            refine lv_istore (lv' := [(4, .int r_9), (3, .int v_8), (0, .ref h), (1, .int p1), (2, .int p2), (5, .int x5), (7, .int x7), (8, .int x8)]) hx hb dX9_left_139 hl (by decide) rfl (fun ls hl => ?_)
            refine lv_iload hx hb dX9_left_141 (lv_at hl 6 rfl) ?_
            refine lv_istore (lv' := [(5, .int x7), (4, .int r_9), (3, .int v_8), (0, .ref h), (1, .int p1), (2, .int p2), (7, .int x7), (8, .int x8)]) hx hb dX9_left_143 hl (by decide) rfl (fun ls hl => ?_)
            refine lv_iconst (v := (0 : Int32)) hx hb dX9_left_145 (by decide) ?_
            refine lv_istore (lv' := [(8, .int (0 : Int32)), (5, .int x7), (4, .int r_9), (3, .int v_8), (0, .ref h), (1, .int p1), (2, .int p2), (7, .int x7)]) hx hb dX9_left_146 hl (by decide) rfl (fun ls hl => ?_)
            obtain ⟨j_, hw⟩ := hw
            exact wk_X9_left_148 h h_s h_images h_tape h_draft h_items h_moved h_sizes h_lanes h_less h_aside h_order kept typed atv p1 p2  Q K38 C hK38 j_ sv less aside order v_8 r_9 x7 (0 : Int32) H locs (hP.sub [3, 4, 0, 1, 2] rfl) (hD.sub [3, 4, 0, 1, 2] (by decide) rfl) hS ls (lv_sub hl [4, 5, 6, 3, 2, 1, 0] rfl) hw
    · replace hw := hw.2 c_1
      refine lv_aload_n hx hb dX9_left_89 rfl (lv_at hl 0 rfl) ?_
      have hPc := hP.sub (ws' := [oc h 9 [.ref h_s, .ref h_images, .int kept, .ref h_tape, .int typed, .ref h_draft, .int atv, .ref h_items, .ref h_moved, .ref h_sizes, .ref h_lanes, .ref h_less, .ref h_aside, .ref h_order], ai G h_s 161 sv, ai G h_less 6 less]) [0, 1, 2] rfl
      have hDc := hD.sub (ws' := [oc h 9 [.ref h_s, .ref h_images, .int kept, .ref h_tape, .int typed, .ref h_draft, .int atv, .ref h_items, .ref h_moved, .ref h_sizes, .ref h_lanes, .ref h_less, .ref h_aside, .ref h_order], ai G h_s 161 sv, ai G h_less 6 less]) [0, 1, 2] (by decide) rfl
      have hFc := va_free (wc := [oc h 9 [.ref h_s, .ref h_images, .int kept, .ref h_tape, .int typed, .ref h_draft, .int atv, .ref h_items, .ref h_moved, .ref h_sizes, .ref h_lanes, .ref h_less, .ref h_aside, .ref h_order], ai G h_s 161 sv, ai G h_less 6 less]) hD hS hA [0, 1, 2] rfl
      refine va_callv (va_runV (As := []) (rest := []) ⟨hx, hb, hml, hown, hts⟩ (mt_X9_passes l G h h_s h_images h_tape h_draft h_items h_moved h_sizes h_lanes h_less h_aside h_order H.size kept typed atv sv less  _ hw) (cwV 0 hts (lw_V q972 q974 qs43 q65 q975) rfl rfl rfl (by decide +kernel) ⟨Nat.le_of_ble_eq_true rfl, Nat.le_of_ble_eq_true rfl⟩) ⟨fun a U g mk q => by obtain ⟨q0, q1, qP, qK, qD⟩ := q; exact ⟨q0, q1, qP, qK.call, qD⟩, va_recv hK.1 hP (ci := 9) (q0 := 0) rfl rfl, fun U hU hW => ⟨rfl, by rw [hU], by rw [hU]; exact hPc, hK.warm hW, hDc.weaken (fun _ _ _ _ => trivial)⟩⟩ rfl rfl hl.1 rfl (lv_room (Nat.le_of_ble_eq_true rfl)) dX9_left_90 ⟨Nat.le_of_ble_eq_true rfl, Nat.le_of_ble_eq_true rfl⟩) hS (fun q _ h => hFc q h) hFc (fun u_10 t H1 locs ht hvm hw hB hz1 hk1 hS => ?_)
      obtain ⟨hP1, hD1⟩ := hB
      rw [ht] at hP1
      obtain ⟨hP, hD⟩ := va_join (wr := [ai G h_aside 40 aside, ai G h_order 40 order]) (w1 := [oc h 9 [.ref h_s, .ref h_images, .int kept, .ref h_tape, .int typed, .ref h_draft, .int atv, .ref h_items, .ref h_moved, .ref h_sizes, .ref h_lanes, .ref h_less, .ref h_aside, .ref h_order], ai G h_s 161 u_10.1, ai G h_less 6 u_10.2]) hP hD [0, 1, 2] [3, 4] rfl rfl (by decide) (by decide) hk1 hFc hP1 hD1
      clear hPc hDc hFc hP1 hD1 hz1 hk1 hvm
      generalize H1 = H at hP hS ⊢
      have hP : va_P G.1 gCl [ai G h_aside 40 aside, ai G h_order 40 order, oc h 9 [.ref h_s, .ref h_images, .int kept, .ref h_tape, .int typed, .ref h_draft, .int atv, .ref h_items, .ref h_moved, .ref h_sizes, .ref h_lanes, .ref h_less, .ref h_aside, .ref h_order], ai G h_s 161 u_10.1, ai G h_less 6 u_10.2] H := hP
      have hD : va_D A [ai G h_aside 40 aside, ai G h_order 40 order, oc h 9 [.ref h_s, .ref h_images, .int kept, .ref h_tape, .int typed, .ref h_draft, .int atv, .ref h_items, .ref h_moved, .ref h_sizes, .ref h_lanes, .ref h_less, .ref h_aside, .ref h_order], ai G h_s 161 u_10.1, ai G h_less 6 u_10.2] := hD
      refine lv_iinc (v := (x8 + (1 : Int32))) (lv' := [(8, .int (x8 + (1 : Int32))), (0, .ref h), (1, .int p1), (2, .int p2), (3, .int x3), (4, .int x4), (5, .int x5), (7, .int x7)]) hx hb dX9_left_93 hl (k := 7) rfl rfl (by decide) rfl (fun ls hl => ?_)
      refine lv_goto (tgt := 83) hx hb dX9_left_96 (by decide) ?_
      exact ih u_10.1 u_10.2 aside order x3 x4 x5 x7 (x8 + (1 : Int32)) H locs (hP.sub [2, 3, 4, 0, 1] rfl) (hD.sub [2, 3, 4, 0, 1] (by decide) rfl) hS ls (lv_sub hl [1, 2, 3, 4, 5, 6, 7, 0] rfl) hw
def wp_X9_left_46 (p1 : Int32) (p2 : Int32) (Q : Int32 → ((Nat → Int32) × (Nat → Int32) × (Nat → Int32) × (Nat → Int32)) → Prop) (K38 : (Nat → Int32) → (Nat → Int32) → (Nat → Int32) → (Nat → Int32) → Int32 → Int32 → Int32 → Int32 → Prop) : Nat → (Nat → Int32) → (Nat → Int32) → (Nat → Int32) → (Nat → Int32) → Int32 → Int32 → Int32 → Int32 → Prop
  | 0, _, _, _, _, _, _, _, _ => False
  | n + 1, sv, less, aside, order, x3, x4, x5, x7 =>
    ((((40 : Int32) ≤ x7) → wp_X9_onSeat sv p2 (fun r_2 => (∃ j_ : Nat, wp_X9_left_83 p1 p2 Q K38 j_ sv less aside order x3 x4 x5 r_2 (0 : Int32)))) ∧ (¬ ((40 : Int32) ≤ x7) → (vp_in x7 161 ∧ (∀ v_4 : Int32, v_4 = (sv x7.toNatClampNeg) → (vp_in x7 40 ∧ ∀ f_6 : Nat → Int32, f_6 = upd order x7.toNatClampNeg v_4 → wp_X9_left_46 p1 p2 Q K38 n sv less aside f_6 x3 x4 x5 (x7 + (1 : Int32)))))))
set_option maxHeartbeats 4000000 in
theorem wk_X9_left_46 {p : Program} {l : Launch} {e : Env} {s : State} {m : MethodId} {below : List Frame} {meth : Method} {c : Code} {args : Array Value} {G : GT} {A : Nat → Prop} (h h_s h_images h_tape h_draft h_items h_moved h_sizes h_lanes h_less h_aside h_order : Nat) (kept : Int32) (typed : Int32) (atv : Int32) (p1 : Int32) (p2 : Int32) (Q : Int32 → ((Nat → Int32) × (Nat → Int32) × (Nat → Int32) × (Nat → Int32)) → Prop) (K38 : (Nat → Int32) → (Nat → Int32) → (Nat → Int32) → (Nat → Int32) → Int32 → Int32 → Int32 → Int32 → Prop) (C : Cx p s m meth c cX9_left 9 (some .int) RX9 args G A) (hK38 : ∀  (sv : Nat → Int32) (less : Nat → Int32) (aside : Nat → Int32) (order : Nat → Int32) (x3 : Int32) (x4 : Int32) (x5 : Int32) (x6 : Int32) (H : Heap) (locs : List Loc), va_P G.1 gCl [oc h 9 [.ref h_s, .ref h_images, .int kept, .ref h_tape, .int typed, .ref h_draft, .int atv, .ref h_items, .ref h_moved, .ref h_sizes, .ref h_lanes, .ref h_less, .ref h_aside, .ref h_order], ai G h_s 161 sv, ai G h_less 6 less, ai G h_aside 40 aside, ai G h_order 40 order] H → va_D A [oc h 9 [.ref h_s, .ref h_images, .int kept, .ref h_tape, .int typed, .ref h_draft, .int atv, .ref h_items, .ref h_moved, .ref h_sizes, .ref h_lanes, .ref h_less, .ref h_aside, .ref h_order], ai G h_s 161 sv, ai G h_less 6 less, ai G h_aside 40 aside, ai G h_order 40 order] → va_S A s.heap H locs → ∀ (ls : Array Slot), lv_has ls 9 [(0, .ref h), (1, .int p1), (2, .int p2), (3, .int x3), (4, .int x4), (5, .int x5), (6, .int x6)] → K38 sv less aside order x3 x4 x5 x6 → W p l e ({ frames := 5, cells := 0, slots := 0, locals := 113 } : Room) s m args below meth c H locs 0 0 (MQ below (va_Qi (fun (r : Int32) (u : (Nat → Int32) × (Nat → Int32) × (Nat → Int32) × (Nat → Int32)) => Q r u) (fun u t => va_P G.1 gCl [oc h 9 [.ref h_s, .ref h_images, .int kept, .ref h_tape, .int typed, .ref h_draft, .int atv, .ref h_items, .ref h_moved, .ref h_sizes, .ref h_lanes, .ref h_less, .ref h_aside, .ref h_order], ai G h_s 161 u.1, ai G h_less 6 u.2.1, ai G h_aside 40 u.2.2.1, ai G h_order 40 u.2.2.2] t.heap ∧ va_D A [oc h 9 [.ref h_s, .ref h_images, .int kept, .ref h_tape, .int typed, .ref h_draft, .int atv, .ref h_items, .ref h_moved, .ref h_sizes, .ref h_lanes, .ref h_less, .ref h_aside, .ref h_order], ai G h_s 161 u.1, ai G h_less 6 u.2.1, ai G h_aside 40 u.2.2.1, ai G h_order 40 u.2.2.2]) A) args s 0 0 A) (F0 m 38 ls [])) :
    ∀ (n : Nat), ∀  (sv : Nat → Int32) (less : Nat → Int32) (aside : Nat → Int32) (order : Nat → Int32) (x3 : Int32) (x4 : Int32) (x5 : Int32) (x7 : Int32) (H : Heap) (locs : List Loc), va_P G.1 gCl [oc h 9 [.ref h_s, .ref h_images, .int kept, .ref h_tape, .int typed, .ref h_draft, .int atv, .ref h_items, .ref h_moved, .ref h_sizes, .ref h_lanes, .ref h_less, .ref h_aside, .ref h_order], ai G h_s 161 sv, ai G h_less 6 less, ai G h_aside 40 aside, ai G h_order 40 order] H → va_D A [oc h 9 [.ref h_s, .ref h_images, .int kept, .ref h_tape, .int typed, .ref h_draft, .int atv, .ref h_items, .ref h_moved, .ref h_sizes, .ref h_lanes, .ref h_less, .ref h_aside, .ref h_order], ai G h_s 161 sv, ai G h_less 6 less, ai G h_aside 40 aside, ai G h_order 40 order] → va_S A s.heap H locs → ∀ (ls : Array Slot), lv_has ls 9 [(0, .ref h), (1, .int p1), (2, .int p2), (3, .int x3), (4, .int x4), (5, .int x5), (7, .int x7)] → wp_X9_left_46 p1 p2 Q K38 n sv less aside order x3 x4 x5 x7 → W p l e ({ frames := 5, cells := 0, slots := 0, locals := 113 } : Room) s m args below meth c H locs 0 0 (MQ below (va_Qi (fun (r : Int32) (u : (Nat → Int32) × (Nat → Int32) × (Nat → Int32) × (Nat → Int32)) => Q r u) (fun u t => va_P G.1 gCl [oc h 9 [.ref h_s, .ref h_images, .int kept, .ref h_tape, .int typed, .ref h_draft, .int atv, .ref h_items, .ref h_moved, .ref h_sizes, .ref h_lanes, .ref h_less, .ref h_aside, .ref h_order], ai G h_s 161 u.1, ai G h_less 6 u.2.1, ai G h_aside 40 u.2.2.1, ai G h_order 40 u.2.2.2] t.heap ∧ va_D A [oc h 9 [.ref h_s, .ref h_images, .int kept, .ref h_tape, .int typed, .ref h_draft, .int atv, .ref h_items, .ref h_moved, .ref h_sizes, .ref h_lanes, .ref h_less, .ref h_aside, .ref h_order], ai G h_s 161 u.1, ai G h_less 6 u.2.1, ai G h_aside 40 u.2.2.1, ai G h_order 40 u.2.2.2]) A) args s 0 0 A) (F0 m 46 ls []) := by
  have C9 := C
  obtain ⟨hx, hb, hr, hlocks, hml, hown, hts, hK, hA⟩ := C9
  intro n
  induction n with
  | zero => intro sv less aside order x3 x4 x5 x7 H locs hP hD hS ls hl hw; exact False.elim hw
  | succ n ih =>
    intro sv less aside order x3 x4 x5 x7 H locs hP hD hS ls hl hw
    unfold wp_X9_left_46 at hw
    refine lv_iload hx hb dX9_left_46 (lv_at hl 6 rfl) ?_
    refine lv_bipush (v := (40 : Int32)) hx hb dX9_left_48 (by decide) ?_
    refine lv_icmp_ge (tgt := 73) hx hb dX9_left_50 (by decide) (fun c_1 => ?_) (fun c_1 => ?_)
    · replace hw := hw.1 c_1
      refine lv_aload_n hx hb dX9_left_73 rfl (lv_at hl 0 rfl) ?_
      refine lv_iload_n hx hb dX9_left_74 rfl (lv_at hl 2 rfl) ?_
      have hPc := hP.sub (ws' := [oc h 9 [.ref h_s, .ref h_images, .int kept, .ref h_tape, .int typed, .ref h_draft, .int atv, .ref h_items, .ref h_moved, .ref h_sizes, .ref h_lanes, .ref h_less, .ref h_aside, .ref h_order], ai G h_s 161 sv]) [0, 1] rfl
      have hDc := hD.sub (ws' := [oc h 9 [.ref h_s, .ref h_images, .int kept, .ref h_tape, .int typed, .ref h_draft, .int atv, .ref h_items, .ref h_moved, .ref h_sizes, .ref h_lanes, .ref h_less, .ref h_aside, .ref h_order], ai G h_s 161 sv]) [0, 1] (by decide) rfl
      have hFc := va_free (wc := [oc h 9 [.ref h_s, .ref h_images, .int kept, .ref h_tape, .int typed, .ref h_draft, .int atv, .ref h_items, .ref h_moved, .ref h_sizes, .ref h_lanes, .ref h_less, .ref h_aside, .ref h_order], ai G h_s 161 sv]) hD hS hA [0, 1] rfl
      refine va_calli (va_runV (As := [.int p2]) (rest := []) ⟨hx, hb, hml, hown, hts⟩ (mt_X9_onSeat l G h h_s h_images h_tape h_draft h_items h_moved h_sizes h_lanes h_less h_aside h_order H.size kept typed atv sv p2 _ hw) (cwV 1 hts (lw_V q899 q901 qs32 q65 q902) rfl rfl rfl (by decide +kernel) ⟨Nat.le_of_ble_eq_true rfl, Nat.le_of_ble_eq_true rfl⟩) ⟨fun a U g mk q => by obtain ⟨q0, q1, qP, qK, qD⟩ := q; exact ⟨q0, q1, qP, qK.call, qD⟩, va_recv hK.1 hP (ci := 9) (q0 := 0) rfl rfl, fun U hU hW => ⟨rfl, by rw [hU], by rw [hU]; exact hPc, hK.warm hW, hDc.weaken (fun _ _ _ _ => trivial)⟩⟩ rfl rfl hl.1 rfl (lv_room (Nat.le_of_ble_eq_true rfl)) dX9_left_75 ⟨Nat.le_of_ble_eq_true rfl, Nat.le_of_ble_eq_true rfl⟩) hS (fun q _ h => hFc q h) hFc (fun r_2 _ t H1 locs ht hvm hw hB hz1 hk1 hS => ?_)
      obtain ⟨hP1, hD1⟩ := hB
      rw [ht] at hP1
      obtain ⟨hP, hD⟩ := va_join (wr := [ai G h_less 6 less, ai G h_aside 40 aside, ai G h_order 40 order]) (w1 := [oc h 9 [.ref h_s, .ref h_images, .int kept, .ref h_tape, .int typed, .ref h_draft, .int atv, .ref h_items, .ref h_moved, .ref h_sizes, .ref h_lanes, .ref h_less, .ref h_aside, .ref h_order], ai G h_s 161 sv]) hP hD [0, 1] [2, 3, 4] rfl rfl (by decide) (by decide) hk1 hFc hP1 hD1
      clear hPc hDc hFc hP1 hD1 hz1 hk1 hvm
      generalize H1 = H at hP hS ⊢
      have hP : va_P G.1 gCl [ai G h_less 6 less, ai G h_aside 40 aside, ai G h_order 40 order, oc h 9 [.ref h_s, .ref h_images, .int kept, .ref h_tape, .int typed, .ref h_draft, .int atv, .ref h_items, .ref h_moved, .ref h_sizes, .ref h_lanes, .ref h_less, .ref h_aside, .ref h_order], ai G h_s 161 sv] H := hP
      have hD : va_D A [ai G h_less 6 less, ai G h_aside 40 aside, ai G h_order 40 order, oc h 9 [.ref h_s, .ref h_images, .int kept, .ref h_tape, .int typed, .ref h_draft, .int atv, .ref h_items, .ref h_moved, .ref h_sizes, .ref h_lanes, .ref h_less, .ref h_aside, .ref h_order], ai G h_s 161 sv] := hD
      refine lv_istore (lv' := [(7, .int r_2), (0, .ref h), (1, .int p1), (2, .int p2), (3, .int x3), (4, .int x4), (5, .int x5)]) hx hb dX9_left_78 hl (by decide) rfl (fun ls hl => ?_)
      refine lv_iconst (v := (0 : Int32)) hx hb dX9_left_80 (by decide) ?_
      refine lv_istore (lv' := [(8, .int (0 : Int32)), (7, .int r_2), (0, .ref h), (1, .int p1), (2, .int p2), (3, .int x3), (4, .int x4), (5, .int x5)]) hx hb dX9_left_81 hl (by decide) rfl (fun ls hl => ?_)
      obtain ⟨j_, hw⟩ := hw
      exact wk_X9_left_83 h h_s h_images h_tape h_draft h_items h_moved h_sizes h_lanes h_less h_aside h_order kept typed atv p1 p2  Q K38 C hK38 j_ sv less aside order x3 x4 x5 r_2 (0 : Int32) H locs (hP.sub [3, 4, 0, 1, 2] rfl) (hD.sub [3, 4, 0, 1, 2] (by decide) rfl) hS ls (lv_sub hl [2, 3, 4, 5, 6, 7, 1, 0] rfl) hw
    · replace hw := hw.2 c_1
      refine lv_aload_n hx hb dX9_left_53 rfl (lv_at hl 0 rfl) ?_
      refine va_get (D := G.1) (ci := 9) (v := .ref h_order) (C := RX9) (T := TX9) (N := 14) hx hb hts in_X9 hown hK.1 hP 0 rfl rfl 13 (by decide) (hts _ q830) (fun _ h9 => h9) rfl dX9_left_54 ?_
      refine lv_iload hx hb dX9_left_57 (lv_at hl 6 rfl) ?_
      refine lv_aload_n hx hb dX9_left_59 rfl (lv_at hl 0 rfl) ?_
      refine va_get (D := G.1) (ci := 9) (v := .ref h_s) (C := RX9) (T := TX9) (N := 14) hx hb hts in_X9 hown hK.1 hP 0 rfl rfl 0 (by decide) (hts _ q817) (fun _ h9 => h9) rfl dX9_left_60 ?_
      refine lv_iload hx hb dX9_left_63 (lv_at hl 6 rfl) ?_
      obtain ⟨i_3, hw⟩ := hw
      refine z_iald hx hb hK.1 hP 1 0 rfl rfl i_3 dX9_left_65 (k := x7.toNatClampNeg) rfl ?_
      refine lv_topi (fun v_4 ev_4 => ?_)
      replace hw := hw v_4 ev_4
      obtain ⟨i_5, hw⟩ := hw
      refine z_iast hx hb hK.1 hP hD hS 4 0 rfl rfl i_5 dX9_left_66 (k := x7.toNatClampNeg) rfl (fun f_6 ef_6 H locs hP hD hS => ?_)
      replace hw := hw f_6 ef_6
      have hP : va_P G.1 gCl [oc h 9 [.ref h_s, .ref h_images, .int kept, .ref h_tape, .int typed, .ref h_draft, .int atv, .ref h_items, .ref h_moved, .ref h_sizes, .ref h_lanes, .ref h_less, .ref h_aside, .ref h_order], ai G h_s 161 sv, ai G h_less 6 less, ai G h_aside 40 aside, ai G h_order 40 f_6] H := hP
      have hD : va_D A [oc h 9 [.ref h_s, .ref h_images, .int kept, .ref h_tape, .int typed, .ref h_draft, .int atv, .ref h_items, .ref h_moved, .ref h_sizes, .ref h_lanes, .ref h_less, .ref h_aside, .ref h_order], ai G h_s 161 sv, ai G h_less 6 less, ai G h_aside 40 aside, ai G h_order 40 f_6] := hD
      refine lv_iinc (v := (x7 + (1 : Int32))) (lv' := [(7, .int (x7 + (1 : Int32))), (0, .ref h), (1, .int p1), (2, .int p2), (3, .int x3), (4, .int x4), (5, .int x5)]) hx hb dX9_left_67 hl (k := 6) rfl rfl (by decide) rfl (fun ls hl => ?_)
      refine lv_goto (tgt := 46) hx hb dX9_left_70 (by decide) ?_
      exact ih sv less aside f_6 x3 x4 x5 (x7 + (1 : Int32)) H locs hP hD hS ls (lv_sub hl [1, 2, 3, 4, 5, 6, 0] rfl) hw
def wp_X9_left_38 (p1 : Int32) (p2 : Int32) (Q : Int32 → ((Nat → Int32) × (Nat → Int32) × (Nat → Int32) × (Nat → Int32)) → Prop)  : Nat → (Nat → Int32) → (Nat → Int32) → (Nat → Int32) → (Nat → Int32) → Int32 → Int32 → Int32 → Int32 → Prop
  | 0, _, _, _, _, _, _, _, _ => False
  | n + 1, sv, less, aside, order, x3, x4, x5, x6 =>
    (((x6 = 0) → wp_X9_lets sv aside  (fun u_2 => ((¬ (p2 = (-1 : Int32)) → ((¬ (p2 = (-2 : Int32)) → Q x5 (u_2, less, aside, order)) ∧ ((p2 = (-2 : Int32)) → Q x4 (u_2, less, aside, order)))) ∧ ((p2 = (-1 : Int32)) → Q x3 (u_2, less, aside, order))))) ∧ (¬ (x6 = 0) → (∃ j_ : Nat, wp_X9_left_46 p1 p2 Q (fun a0_ a1_ a2_ a3_ a4_ a5_ a6_ a7_ => wp_X9_left_38 p1 p2 Q  n a0_ a1_ a2_ a3_ a4_ a5_ a6_ a7_) j_ sv less aside order x3 x4 x5 (0 : Int32))))
set_option maxHeartbeats 4000000 in
theorem wk_X9_left_38 {p : Program} {l : Launch} {e : Env} {s : State} {m : MethodId} {below : List Frame} {meth : Method} {c : Code} {args : Array Value} {G : GT} {A : Nat → Prop} (h h_s h_images h_tape h_draft h_items h_moved h_sizes h_lanes h_less h_aside h_order : Nat) (kept : Int32) (typed : Int32) (atv : Int32) (p1 : Int32) (p2 : Int32) (Q : Int32 → ((Nat → Int32) × (Nat → Int32) × (Nat → Int32) × (Nat → Int32)) → Prop)  (C : Cx p s m meth c cX9_left 9 (some .int) RX9 args G A)  :
    ∀ (n : Nat), ∀  (sv : Nat → Int32) (less : Nat → Int32) (aside : Nat → Int32) (order : Nat → Int32) (x3 : Int32) (x4 : Int32) (x5 : Int32) (x6 : Int32) (H : Heap) (locs : List Loc), va_P G.1 gCl [oc h 9 [.ref h_s, .ref h_images, .int kept, .ref h_tape, .int typed, .ref h_draft, .int atv, .ref h_items, .ref h_moved, .ref h_sizes, .ref h_lanes, .ref h_less, .ref h_aside, .ref h_order], ai G h_s 161 sv, ai G h_less 6 less, ai G h_aside 40 aside, ai G h_order 40 order] H → va_D A [oc h 9 [.ref h_s, .ref h_images, .int kept, .ref h_tape, .int typed, .ref h_draft, .int atv, .ref h_items, .ref h_moved, .ref h_sizes, .ref h_lanes, .ref h_less, .ref h_aside, .ref h_order], ai G h_s 161 sv, ai G h_less 6 less, ai G h_aside 40 aside, ai G h_order 40 order] → va_S A s.heap H locs → ∀ (ls : Array Slot), lv_has ls 9 [(0, .ref h), (1, .int p1), (2, .int p2), (3, .int x3), (4, .int x4), (5, .int x5), (6, .int x6)] → wp_X9_left_38 p1 p2 Q  n sv less aside order x3 x4 x5 x6 → W p l e ({ frames := 5, cells := 0, slots := 0, locals := 113 } : Room) s m args below meth c H locs 0 0 (MQ below (va_Qi (fun (r : Int32) (u : (Nat → Int32) × (Nat → Int32) × (Nat → Int32) × (Nat → Int32)) => Q r u) (fun u t => va_P G.1 gCl [oc h 9 [.ref h_s, .ref h_images, .int kept, .ref h_tape, .int typed, .ref h_draft, .int atv, .ref h_items, .ref h_moved, .ref h_sizes, .ref h_lanes, .ref h_less, .ref h_aside, .ref h_order], ai G h_s 161 u.1, ai G h_less 6 u.2.1, ai G h_aside 40 u.2.2.1, ai G h_order 40 u.2.2.2] t.heap ∧ va_D A [oc h 9 [.ref h_s, .ref h_images, .int kept, .ref h_tape, .int typed, .ref h_draft, .int atv, .ref h_items, .ref h_moved, .ref h_sizes, .ref h_lanes, .ref h_less, .ref h_aside, .ref h_order], ai G h_s 161 u.1, ai G h_less 6 u.2.1, ai G h_aside 40 u.2.2.1, ai G h_order 40 u.2.2.2]) A) args s 0 0 A) (F0 m 38 ls []) := by
  have C9 := C
  obtain ⟨hx, hb, hr, hlocks, hml, hown, hts, hK, hA⟩ := C9
  intro n
  induction n with
  | zero => intro sv less aside order x3 x4 x5 x6 H locs hP hD hS ls hl hw; exact False.elim hw
  | succ n ih =>
    intro sv less aside order x3 x4 x5 x6 H locs hP hD hS ls hl hw
    unfold wp_X9_left_38 at hw
    refine lv_iload hx hb dX9_left_38 (lv_at hl 6 rfl) ?_
    refine lv_if_eq (tgt := 184) hx hb dX9_left_40 (by decide) (fun c_1 => ?_) (fun c_1 => ?_)
    · replace hw := hw.1 c_1
      refine lv_aload_n hx hb dX9_left_184 rfl (lv_at hl 0 rfl) ?_
      have hPc := hP.sub (ws' := [oc h 9 [.ref h_s, .ref h_images, .int kept, .ref h_tape, .int typed, .ref h_draft, .int atv, .ref h_items, .ref h_moved, .ref h_sizes, .ref h_lanes, .ref h_less, .ref h_aside, .ref h_order], ai G h_s 161 sv, ai G h_aside 40 aside]) [0, 1, 3] rfl
      have hDc := hD.sub (ws' := [oc h 9 [.ref h_s, .ref h_images, .int kept, .ref h_tape, .int typed, .ref h_draft, .int atv, .ref h_items, .ref h_moved, .ref h_sizes, .ref h_lanes, .ref h_less, .ref h_aside, .ref h_order], ai G h_s 161 sv, ai G h_aside 40 aside]) [0, 1, 3] (by decide) rfl
      have hFc := va_free (wc := [oc h 9 [.ref h_s, .ref h_images, .int kept, .ref h_tape, .int typed, .ref h_draft, .int atv, .ref h_items, .ref h_moved, .ref h_sizes, .ref h_lanes, .ref h_less, .ref h_aside, .ref h_order], ai G h_s 161 sv, ai G h_aside 40 aside]) hD hS hA [0, 1, 3] rfl
      refine va_callv (va_runV (As := []) (rest := []) ⟨hx, hb, hml, hown, hts⟩ (mt_X9_lets l G h h_s h_images h_tape h_draft h_items h_moved h_sizes h_lanes h_less h_aside h_order H.size kept typed atv sv aside  _ hw) (cwV 0 hts (lw_V q1014 q1016 qs46 q65 q1017) rfl rfl rfl (by decide +kernel) ⟨Nat.le_of_ble_eq_true rfl, Nat.le_of_ble_eq_true rfl⟩) ⟨fun a U g mk q => by obtain ⟨q0, q1, qP, qK, qD⟩ := q; exact ⟨q0, q1, qP, qK.call, qD⟩, va_recv hK.1 hP (ci := 9) (q0 := 0) rfl rfl, fun U hU hW => ⟨rfl, by rw [hU], by rw [hU]; exact hPc, hK.warm hW, hDc.weaken (fun _ _ _ _ => trivial)⟩⟩ rfl rfl hl.1 rfl (lv_room (Nat.le_of_ble_eq_true rfl)) dX9_left_185 ⟨Nat.le_of_ble_eq_true rfl, Nat.le_of_ble_eq_true rfl⟩) hS (fun q _ h => hFc q h) hFc (fun u_2 t H1 locs ht hvm hw hB hz1 hk1 hS => ?_)
      obtain ⟨hP1, hD1⟩ := hB
      rw [ht] at hP1
      obtain ⟨hP, hD⟩ := va_join (wr := [ai G h_less 6 less, ai G h_order 40 order]) (w1 := [oc h 9 [.ref h_s, .ref h_images, .int kept, .ref h_tape, .int typed, .ref h_draft, .int atv, .ref h_items, .ref h_moved, .ref h_sizes, .ref h_lanes, .ref h_less, .ref h_aside, .ref h_order], ai G h_s 161 u_2, ai G h_aside 40 aside]) hP hD [0, 1, 3] [2, 4] rfl rfl (by decide) (by decide) hk1 hFc hP1 hD1
      clear hPc hDc hFc hP1 hD1 hz1 hk1 hvm
      generalize H1 = H at hP hS ⊢
      have hP : va_P G.1 gCl [ai G h_less 6 less, ai G h_order 40 order, oc h 9 [.ref h_s, .ref h_images, .int kept, .ref h_tape, .int typed, .ref h_draft, .int atv, .ref h_items, .ref h_moved, .ref h_sizes, .ref h_lanes, .ref h_less, .ref h_aside, .ref h_order], ai G h_s 161 u_2, ai G h_aside 40 aside] H := hP
      have hD : va_D A [ai G h_less 6 less, ai G h_order 40 order, oc h 9 [.ref h_s, .ref h_images, .int kept, .ref h_tape, .int typed, .ref h_draft, .int atv, .ref h_items, .ref h_moved, .ref h_sizes, .ref h_lanes, .ref h_less, .ref h_aside, .ref h_order], ai G h_s 161 u_2, ai G h_aside 40 aside] := hD
      refine lv_iload_n hx hb dX9_left_188 rfl (lv_at hl 2 rfl) ?_
      refine lv_iconst (v := (-1 : Int32)) hx hb dX9_left_189 (by decide) ?_
      refine lv_icmp_ne (tgt := 197) hx hb dX9_left_190 (by decide) (fun c_3 => ?_) (fun c_3 => ?_)
      · replace hw := hw.1 c_3
        refine lv_iload_n hx hb dX9_left_197 rfl (lv_at hl 2 rfl) ?_
        refine lv_bipush (v := (-2 : Int32)) hx hb dX9_left_198 (by decide) ?_
        refine lv_icmp_ne (tgt := 208) hx hb dX9_left_200 (by decide) (fun c_4 => ?_) (fun c_4 => ?_)
        · replace hw := hw.1 c_4
          refine lv_iload hx hb dX9_left_208 (lv_at hl 5 rfl) ?_
          have hP9 := hP.sub (ws' := [oc h 9 [.ref h_s, .ref h_images, .int kept, .ref h_tape, .int typed, .ref h_draft, .int atv, .ref h_items, .ref h_moved, .ref h_sizes, .ref h_lanes, .ref h_less, .ref h_aside, .ref h_order], ai G h_s 161 u_2, ai G h_less 6 less, ai G h_aside 40 aside, ai G h_order 40 order]) [2, 3, 0, 4, 1] rfl
          have hD9 := hD.sub (ws' := [oc h 9 [.ref h_s, .ref h_images, .int kept, .ref h_tape, .int typed, .ref h_draft, .int atv, .ref h_items, .ref h_moved, .ref h_sizes, .ref h_lanes, .ref h_less, .ref h_aside, .ref h_order], ai G h_s 161 u_2, ai G h_less 6 less, ai G h_aside 40 aside, ai G h_order 40 order]) [2, 3, 0, 4, 1] (by decide) rfl
          exact W.iret (v := x5) hx hb hr (fun t ht hW => ⟨⟨x5, (u_2, less, aside, order), rfl, hw, by rw [ht]; exact hP9, hD9⟩, hS.F ht⟩) hS.2.2 dX9_left_210
        · replace hw := hw.2 c_4
          refine lv_iload hx hb dX9_left_203 (lv_at hl 4 rfl) ?_
          refine lv_goto (tgt := 210) hx hb dX9_left_205 (by decide) ?_
          have hP9 := hP.sub (ws' := [oc h 9 [.ref h_s, .ref h_images, .int kept, .ref h_tape, .int typed, .ref h_draft, .int atv, .ref h_items, .ref h_moved, .ref h_sizes, .ref h_lanes, .ref h_less, .ref h_aside, .ref h_order], ai G h_s 161 u_2, ai G h_less 6 less, ai G h_aside 40 aside, ai G h_order 40 order]) [2, 3, 0, 4, 1] rfl
          have hD9 := hD.sub (ws' := [oc h 9 [.ref h_s, .ref h_images, .int kept, .ref h_tape, .int typed, .ref h_draft, .int atv, .ref h_items, .ref h_moved, .ref h_sizes, .ref h_lanes, .ref h_less, .ref h_aside, .ref h_order], ai G h_s 161 u_2, ai G h_less 6 less, ai G h_aside 40 aside, ai G h_order 40 order]) [2, 3, 0, 4, 1] (by decide) rfl
          exact W.iret (v := x4) hx hb hr (fun t ht hW => ⟨⟨x4, (u_2, less, aside, order), rfl, hw, by rw [ht]; exact hP9, hD9⟩, hS.F ht⟩) hS.2.2 dX9_left_210
      · replace hw := hw.2 c_3
        refine lv_iload_n hx hb dX9_left_193 rfl (lv_at hl 3 rfl) ?_
        refine lv_goto (tgt := 210) hx hb dX9_left_194 (by decide) ?_
        have hP9 := hP.sub (ws' := [oc h 9 [.ref h_s, .ref h_images, .int kept, .ref h_tape, .int typed, .ref h_draft, .int atv, .ref h_items, .ref h_moved, .ref h_sizes, .ref h_lanes, .ref h_less, .ref h_aside, .ref h_order], ai G h_s 161 u_2, ai G h_less 6 less, ai G h_aside 40 aside, ai G h_order 40 order]) [2, 3, 0, 4, 1] rfl
        have hD9 := hD.sub (ws' := [oc h 9 [.ref h_s, .ref h_images, .int kept, .ref h_tape, .int typed, .ref h_draft, .int atv, .ref h_items, .ref h_moved, .ref h_sizes, .ref h_lanes, .ref h_less, .ref h_aside, .ref h_order], ai G h_s 161 u_2, ai G h_less 6 less, ai G h_aside 40 aside, ai G h_order 40 order]) [2, 3, 0, 4, 1] (by decide) rfl
        exact W.iret (v := x3) hx hb hr (fun t ht hW => ⟨⟨x3, (u_2, less, aside, order), rfl, hw, by rw [ht]; exact hP9, hD9⟩, hS.F ht⟩) hS.2.2 dX9_left_210
    · replace hw := hw.2 c_1
      refine lv_iconst (v := (0 : Int32)) hx hb dX9_left_43 (by decide) ?_
      refine lv_istore (lv' := [(7, .int (0 : Int32)), (0, .ref h), (1, .int p1), (2, .int p2), (3, .int x3), (4, .int x4), (5, .int x5), (6, .int x6)]) hx hb dX9_left_44 hl (by decide) rfl (fun ls hl => ?_)
      obtain ⟨j_, hw⟩ := hw
      exact wk_X9_left_46 h h_s h_images h_tape h_draft h_items h_moved h_sizes h_lanes h_less h_aside h_order kept typed atv p1 p2  Q (fun a0_ a1_ a2_ a3_ a4_ a5_ a6_ a7_ => wp_X9_left_38 p1 p2 Q  n a0_ a1_ a2_ a3_ a4_ a5_ a6_ a7_) C ih j_ sv less aside order x3 x4 x5 (0 : Int32) H locs hP hD hS ls (lv_sub hl [1, 2, 3, 4, 5, 6, 0] rfl) hw
def wp_X9_left (sv : Nat → Int32) (less : Nat → Int32) (aside : Nat → Int32) (order : Nat → Int32) (p1 : Int32) (p2 : Int32) (Q : Int32 → ((Nat → Int32) × (Nat → Int32) × (Nat → Int32) × (Nat → Int32)) → Prop) : Prop :=
  wp_X9_in  p1 (0 : Int32) (30 : Int32) (fun r_1 => (((r_1 = 0) → Q (-1 : Int32) (sv, less, aside, order)) ∧ (¬ (r_1 = 0) → ((((-2 : Int32) ≤ p2) → wp_X9_holds sv aside  (fun u_4 => wp_X9_firstOrder sv  (fun u_5 => (∃ j_ : Nat, wp_X9_left_38 p1 p2 Q  j_ u_5 less u_4 order (-1 : Int32) (-1 : Int32) (-4 : Int32) (1 : Int32))))) ∧ (¬ ((-2 : Int32) ≤ p2) → Q (-1 : Int32) (sv, less, aside, order))))))
set_option maxHeartbeats 4000000 in
theorem mt_X9_left (l : Launch) (G : GT) (h h_s h_images h_tape h_draft h_items h_moved h_sizes h_lanes h_less h_aside h_order : Nat) (sz : Nat) (kept : Int32) (typed : Int32) (atv : Int32) (sv : Nat → Int32) (less : Nat → Int32) (aside : Nat → Int32) (order : Nat → Int32) (p1 : Int32) (p2 : Int32) (Q : Int32 → ((Nat → Int32) × (Nat → Int32) × (Nat → Int32) × (Nat → Int32)) → Prop) (hw : wp_X9_left sv less aside order p1 p2 Q) : Met l yX9_left (ws_ yX9_left cX9_left 9 (some .int)) ({ frames := 5, cells := 0, slots := 0, locals := 113 } : Room) (va_Pc [.ref h, .int p1, .int p2] (fun U => U.heap.size = sz ∧ va_P G.1 gCl [oc h 9 [.ref h_s, .ref h_images, .int kept, .ref h_tape, .int typed, .ref h_draft, .int atv, .ref h_items, .ref h_moved, .ref h_sizes, .ref h_lanes, .ref h_less, .ref h_aside, .ref h_order], ai G h_s 161 sv, ai G h_less 6 less, ai G h_aside 40 aside, ai G h_order 40 order] U.heap ∧ gK G U ∧ va_D (fun _ => True) [oc h 9 [.ref h_s, .ref h_images, .int kept, .ref h_tape, .int typed, .ref h_draft, .int atv, .ref h_items, .ref h_moved, .ref h_sizes, .ref h_lanes, .ref h_less, .ref h_aside, .ref h_order], ai G h_s 161 sv, ai G h_less 6 less, ai G h_aside 40 aside, ai G h_order 40 order])) ((fun A => (va_Qi (fun (r : Int32) (u : (Nat → Int32) × (Nat → Int32) × (Nat → Int32) × (Nat → Int32)) => Q r u) (fun u t => va_P G.1 gCl [oc h 9 [.ref h_s, .ref h_images, .int kept, .ref h_tape, .int typed, .ref h_draft, .int atv, .ref h_items, .ref h_moved, .ref h_sizes, .ref h_lanes, .ref h_less, .ref h_aside, .ref h_order], ai G h_s 161 u.1, ai G h_less 6 u.2.1, ai G h_aside 40 u.2.2.1, ai G h_order 40 u.2.2.2] t.heap ∧ va_D A [oc h 9 [.ref h_s, .ref h_images, .int kept, .ref h_tape, .int typed, .ref h_draft, .int atv, .ref h_items, .ref h_moved, .ref h_sizes, .ref h_lanes, .ref h_less, .ref h_aside, .ref h_order], ai G h_s 161 u.1, ai G h_less 6 u.2.1, ai G h_aside 40 u.2.2.1, ai G h_order 40 u.2.2.2]) A)) (va_A [oc h 9 [.ref h_s, .ref h_images, .int kept, .ref h_tape, .int typed, .ref h_draft, .int atv, .ref h_items, .ref h_moved, .ref h_sizes, .ref h_lanes, .ref h_less, .ref h_aside, .ref h_order], ai G h_s 161 sv, ai G h_less 6 less, ai G h_aside 40 aside, ai G h_order 40 order] sz)) 0 0 (va_A [oc h 9 [.ref h_s, .ref h_images, .int kept, .ref h_tape, .int typed, .ref h_draft, .int atv, .ref h_items, .ref h_moved, .ref h_sizes, .ref h_lanes, .ref h_less, .ref h_aside, .ref h_order], ai G h_s 161 sv, ai G h_less 6 less, ai G h_aside 40 aside, ai G h_order 40 order] sz) := by
  refine Met.ofW (cc := cX9_left) (maxL := 9) (ret := (some .int)) (by decide) rfl ?_
  intro p e s m args below meth c s₁ B hml hv
  obtain ⟨rfl, hsz, hP, hK, hD0⟩ := hv
  have hx := B.exec
  have hb := B.bytes
  have hr := B.returns
  have hts := atoms_spec (ws := (ws_ yX9_left cX9_left 9 (some .int))) B.pre
  have hts : ∀ w ∈ lw_all, w.before _ s = true := fun w h => hts w (List.mem_cons_of_mem _ h)
  have hown : s.vm.findClass RX9 = some m.cls := findClass_of_methodNamed B.named
  have hlocks := B.notSynchronized
  subst hsz
  have hD := hD0.self (sz := s.heap.size)
  generalize hAe : va_A [oc h 9 [.ref h_s, .ref h_images, .int kept, .ref h_tape, .int typed, .ref h_draft, .int atv, .ref h_items, .ref h_moved, .ref h_sizes, .ref h_lanes, .ref h_less, .ref h_aside, .ref h_order], ai G h_s 161 sv, ai G h_less 6 less, ai G h_aside 40 aside, ai G h_order 40 order] s.heap.size = A at hD ⊢
  have hA : ∀ q : Nat, s.heap.size ≤ q → A q := fun q h => by rw [← hAe]; exact Or.inr h
  have hS : va_S A s.heap s.heap [] := va_S.rf
  have C : Cx p s m meth c cX9_left 9 (some .int) RX9 ([.ref h, .int p1, .int p2] : List Value).toArray G A := ⟨hx, hb, hr, hlocks, hml, hown, hts, hK, hA⟩
  have hl := lv_entry ([.ref h, .int p1, .int p2]) (n := 9) (Nat.le_of_ble_eq_true rfl)
  rw [lg_entry_eq]
  generalize (lg_sl ([.ref h, .int p1, .int p2]) ++ List.replicate (9 - (lg_sl ([.ref h, .int p1, .int p2])).length) Slot.unset).toArray = ls at hl ⊢
  have hl : lv_has ls 9 [(0, .ref h), (1, .int p1), (2, .int p2)] := hl
  unfold wp_X9_left at hw
  refine lv_iload_n hx hb dX9_left_0 rfl (lv_at hl 1 rfl) ?_
  refine lv_iconst (v := (0 : Int32)) hx hb dX9_left_1 (by decide) ?_
  refine lv_bipush (v := (30 : Int32)) hx hb dX9_left_2 (by decide) ?_
  have hPc := hP.sub (ws' := []) [] rfl
  have hDc := hD.sub (ws' := []) [] (by decide) rfl
  have hFc := va_free (wc := []) hD hS hA [] rfl
  refine va_calli (va_runS (As := [.int p1, .int (0 : Int32), .int (30 : Int32)]) (rest := []) ⟨hx, hb, hml, hown, hts⟩ (mt_X9_in l G  s.heap.size  p1 (0 : Int32) (30 : Int32) _ hw) (va_cwS 3 hts (lw_S q864 q865 q65 q866) rfl rfl rfl (by decide +kernel) ⟨Nat.le_of_ble_eq_true rfl, Nat.le_of_ble_eq_true rfl⟩) ⟨fun a U g mk q => by obtain ⟨q0, q1, qP, qK, qD⟩ := q; exact ⟨q0, q1, qP, qK.call, qD⟩, fun U hU hW => ⟨rfl, by rw [hU], by rw [hU]; exact hPc, hK.warm hW, hDc.weaken (fun _ _ _ _ => trivial)⟩⟩ rfl rfl hl.1 rfl (lv_room (Nat.le_of_ble_eq_true rfl)) dX9_left_4 ⟨Nat.le_of_ble_eq_true rfl, Nat.le_of_ble_eq_true rfl⟩) hS (fun q _ h => hFc q h) hFc (fun r_1 _ t H1 locs ht hvm hw hB hz1 hk1 hS => ?_)
  obtain ⟨hP1, hD1⟩ := hB
  rw [ht] at hP1
  obtain ⟨hP, hD⟩ := va_join (wr := [oc h 9 [.ref h_s, .ref h_images, .int kept, .ref h_tape, .int typed, .ref h_draft, .int atv, .ref h_items, .ref h_moved, .ref h_sizes, .ref h_lanes, .ref h_less, .ref h_aside, .ref h_order], ai G h_s 161 sv, ai G h_less 6 less, ai G h_aside 40 aside, ai G h_order 40 order]) (w1 := []) hP hD [] [0, 1, 2, 3, 4] rfl rfl (by decide) (by decide) hk1 hFc hP1 hD1
  clear hPc hDc hFc hP1 hD1 hz1 hk1 hvm
  generalize H1 = H at hP hS ⊢
  have hP : va_P G.1 gCl [oc h 9 [.ref h_s, .ref h_images, .int kept, .ref h_tape, .int typed, .ref h_draft, .int atv, .ref h_items, .ref h_moved, .ref h_sizes, .ref h_lanes, .ref h_less, .ref h_aside, .ref h_order], ai G h_s 161 sv, ai G h_less 6 less, ai G h_aside 40 aside, ai G h_order 40 order] H := hP
  have hD : va_D A [oc h 9 [.ref h_s, .ref h_images, .int kept, .ref h_tape, .int typed, .ref h_draft, .int atv, .ref h_items, .ref h_moved, .ref h_sizes, .ref h_lanes, .ref h_less, .ref h_aside, .ref h_order], ai G h_s 161 sv, ai G h_less 6 less, ai G h_aside 40 aside, ai G h_order 40 order] := hD
  refine lv_if_eq (tgt := 16) hx hb dX9_left_7 (by decide) (fun c_2 => ?_) (fun c_2 => ?_)
  · replace hw := hw.1 c_2
    refine lv_iconst (v := (-1 : Int32)) hx hb dX9_left_16 (by decide) ?_
    have hP9 := hP
    have hD9 := hD
    exact W.iret (v := (-1 : Int32)) hx hb hr (fun t ht hW => ⟨⟨(-1 : Int32), (sv, less, aside, order), rfl, hw, by rw [ht]; exact hP9, hD9⟩, hS.F ht⟩) hS.2.2 dX9_left_17
  · replace hw := hw.2 c_2
    refine lv_iload_n hx hb dX9_left_10 rfl (lv_at hl 2 rfl) ?_
    refine lv_bipush (v := (-2 : Int32)) hx hb dX9_left_11 (by decide) ?_
    refine lv_icmp_ge (tgt := 18) hx hb dX9_left_13 (by decide) (fun c_3 => ?_) (fun c_3 => ?_)
    · replace hw := hw.1 c_3
      refine lv_aload_n hx hb dX9_left_18 rfl (lv_at hl 0 rfl) ?_
      have hPc := hP.sub (ws' := [oc h 9 [.ref h_s, .ref h_images, .int kept, .ref h_tape, .int typed, .ref h_draft, .int atv, .ref h_items, .ref h_moved, .ref h_sizes, .ref h_lanes, .ref h_less, .ref h_aside, .ref h_order], ai G h_s 161 sv, ai G h_aside 40 aside]) [0, 1, 3] rfl
      have hDc := hD.sub (ws' := [oc h 9 [.ref h_s, .ref h_images, .int kept, .ref h_tape, .int typed, .ref h_draft, .int atv, .ref h_items, .ref h_moved, .ref h_sizes, .ref h_lanes, .ref h_less, .ref h_aside, .ref h_order], ai G h_s 161 sv, ai G h_aside 40 aside]) [0, 1, 3] (by decide) rfl
      have hFc := va_free (wc := [oc h 9 [.ref h_s, .ref h_images, .int kept, .ref h_tape, .int typed, .ref h_draft, .int atv, .ref h_items, .ref h_moved, .ref h_sizes, .ref h_lanes, .ref h_less, .ref h_aside, .ref h_order], ai G h_s 161 sv, ai G h_aside 40 aside]) hD hS hA [0, 1, 3] rfl
      refine va_callv (va_runV (As := []) (rest := []) ⟨hx, hb, hml, hown, hts⟩ (mt_X9_holds l G h h_s h_images h_tape h_draft h_items h_moved h_sizes h_lanes h_less h_aside h_order H.size kept typed atv sv aside  _ hw) (cwV 0 hts (lw_V q1010 q1012 qs45 q65 q1013) rfl rfl rfl (by decide +kernel) ⟨Nat.le_of_ble_eq_true rfl, Nat.le_of_ble_eq_true rfl⟩) ⟨fun a U g mk q => by obtain ⟨q0, q1, qP, qK, qD⟩ := q; exact ⟨q0, q1, qP, qK.call, qD⟩, va_recv hK.1 hP (ci := 9) (q0 := 0) rfl rfl, fun U hU hW => ⟨rfl, by rw [hU], by rw [hU]; exact hPc, hK.warm hW, hDc.weaken (fun _ _ _ _ => trivial)⟩⟩ rfl rfl hl.1 rfl (lv_room (Nat.le_of_ble_eq_true rfl)) dX9_left_19 ⟨Nat.le_of_ble_eq_true rfl, Nat.le_of_ble_eq_true rfl⟩) hS (fun q _ h => hFc q h) hFc (fun u_4 t H1 locs ht hvm hw hB hz1 hk1 hS => ?_)
      obtain ⟨hP1, hD1⟩ := hB
      rw [ht] at hP1
      obtain ⟨hP, hD⟩ := va_join (wr := [ai G h_less 6 less, ai G h_order 40 order]) (w1 := [oc h 9 [.ref h_s, .ref h_images, .int kept, .ref h_tape, .int typed, .ref h_draft, .int atv, .ref h_items, .ref h_moved, .ref h_sizes, .ref h_lanes, .ref h_less, .ref h_aside, .ref h_order], ai G h_s 161 sv, ai G h_aside 40 u_4]) hP hD [0, 1, 3] [2, 4] rfl rfl (by decide) (by decide) hk1 hFc hP1 hD1
      clear hPc hDc hFc hP1 hD1 hz1 hk1 hvm
      generalize H1 = H at hP hS ⊢
      have hP : va_P G.1 gCl [ai G h_less 6 less, ai G h_order 40 order, oc h 9 [.ref h_s, .ref h_images, .int kept, .ref h_tape, .int typed, .ref h_draft, .int atv, .ref h_items, .ref h_moved, .ref h_sizes, .ref h_lanes, .ref h_less, .ref h_aside, .ref h_order], ai G h_s 161 sv, ai G h_aside 40 u_4] H := hP
      have hD : va_D A [ai G h_less 6 less, ai G h_order 40 order, oc h 9 [.ref h_s, .ref h_images, .int kept, .ref h_tape, .int typed, .ref h_draft, .int atv, .ref h_items, .ref h_moved, .ref h_sizes, .ref h_lanes, .ref h_less, .ref h_aside, .ref h_order], ai G h_s 161 sv, ai G h_aside 40 u_4] := hD
      refine lv_aload_n hx hb dX9_left_22 rfl (lv_at hl 0 rfl) ?_
      have hPc := hP.sub (ws' := [oc h 9 [.ref h_s, .ref h_images, .int kept, .ref h_tape, .int typed, .ref h_draft, .int atv, .ref h_items, .ref h_moved, .ref h_sizes, .ref h_lanes, .ref h_less, .ref h_aside, .ref h_order], ai G h_s 161 sv]) [2, 3] rfl
      have hDc := hD.sub (ws' := [oc h 9 [.ref h_s, .ref h_images, .int kept, .ref h_tape, .int typed, .ref h_draft, .int atv, .ref h_items, .ref h_moved, .ref h_sizes, .ref h_lanes, .ref h_less, .ref h_aside, .ref h_order], ai G h_s 161 sv]) [2, 3] (by decide) rfl
      have hFc := va_free (wc := [oc h 9 [.ref h_s, .ref h_images, .int kept, .ref h_tape, .int typed, .ref h_draft, .int atv, .ref h_items, .ref h_moved, .ref h_sizes, .ref h_lanes, .ref h_less, .ref h_aside, .ref h_order], ai G h_s 161 sv]) hD hS hA [2, 3] rfl
      refine va_callv (va_runV (As := []) (rest := []) ⟨hx, hb, hml, hown, hts⟩ (mt_X9_firstOrder l G h h_s h_images h_tape h_draft h_items h_moved h_sizes h_lanes h_less h_aside h_order H.size kept typed atv sv  _ hw) (cwV 0 hts (lw_V q1057 q1059 qs49 q65 q1060) rfl rfl rfl (by decide +kernel) ⟨Nat.le_of_ble_eq_true rfl, Nat.le_of_ble_eq_true rfl⟩) ⟨fun a U g mk q => by obtain ⟨q0, q1, qP, qK, qD⟩ := q; exact ⟨q0, q1, qP, qK.call, qD⟩, va_recv hK.1 hP (ci := 9) (q0 := 2) rfl rfl, fun U hU hW => ⟨rfl, by rw [hU], by rw [hU]; exact hPc, hK.warm hW, hDc.weaken (fun _ _ _ _ => trivial)⟩⟩ rfl rfl hl.1 rfl (lv_room (Nat.le_of_ble_eq_true rfl)) dX9_left_23 ⟨Nat.le_of_ble_eq_true rfl, Nat.le_of_ble_eq_true rfl⟩) hS (fun q _ h => hFc q h) hFc (fun u_5 t H1 locs ht hvm hw hB hz1 hk1 hS => ?_)
      obtain ⟨hP1, hD1⟩ := hB
      rw [ht] at hP1
      obtain ⟨hP, hD⟩ := va_join (wr := [ai G h_less 6 less, ai G h_order 40 order, ai G h_aside 40 u_4]) (w1 := [oc h 9 [.ref h_s, .ref h_images, .int kept, .ref h_tape, .int typed, .ref h_draft, .int atv, .ref h_items, .ref h_moved, .ref h_sizes, .ref h_lanes, .ref h_less, .ref h_aside, .ref h_order], ai G h_s 161 u_5]) hP hD [2, 3] [0, 1, 4] rfl rfl (by decide) (by decide) hk1 hFc hP1 hD1
      clear hPc hDc hFc hP1 hD1 hz1 hk1 hvm
      generalize H1 = H at hP hS ⊢
      have hP : va_P G.1 gCl [ai G h_less 6 less, ai G h_order 40 order, ai G h_aside 40 u_4, oc h 9 [.ref h_s, .ref h_images, .int kept, .ref h_tape, .int typed, .ref h_draft, .int atv, .ref h_items, .ref h_moved, .ref h_sizes, .ref h_lanes, .ref h_less, .ref h_aside, .ref h_order], ai G h_s 161 u_5] H := hP
      have hD : va_D A [ai G h_less 6 less, ai G h_order 40 order, ai G h_aside 40 u_4, oc h 9 [.ref h_s, .ref h_images, .int kept, .ref h_tape, .int typed, .ref h_draft, .int atv, .ref h_items, .ref h_moved, .ref h_sizes, .ref h_lanes, .ref h_less, .ref h_aside, .ref h_order], ai G h_s 161 u_5] := hD
      refine lv_iconst (v := (-1 : Int32)) hx hb dX9_left_26 (by decide) ?_
      refine lv_istore_n (lv' := [(3, .int (-1 : Int32)), (0, .ref h), (1, .int p1), (2, .int p2)]) hx hb dX9_left_27 rfl hl (by decide) rfl (fun ls hl => ?_)
      refine lv_iconst (v := (-1 : Int32)) hx hb dX9_left_28 (by decide) ?_
      refine lv_istore (lv' := [(4, .int (-1 : Int32)), (3, .int (-1 : Int32)), (0, .ref h), (1, .int p1), (2, .int p2)]) hx hb dX9_left_29 hl (by decide) rfl (fun ls hl => ?_)
      refine lv_bipush (v := (-4 : Int32)) hx hb dX9_left_31 (by decide) ?_
      refine lv_istore (lv' := [(5, .int (-4 : Int32)), (4, .int (-1 : Int32)), (3, .int (-1 : Int32)), (0, .ref h), (1, .int p1), (2, .int p2)]) hx hb dX9_left_33 hl (by decide) rfl (fun ls hl => ?_)
      refine lv_iconst (v := (1 : Int32)) hx hb dX9_left_35 (by decide) ?_
      refine lv_istore (lv' := [(6, .int (1 : Int32)), (5, .int (-4 : Int32)), (4, .int (-1 : Int32)), (3, .int (-1 : Int32)), (0, .ref h), (1, .int p1), (2, .int p2)]) hx hb dX9_left_36 hl (by decide) rfl (fun ls hl => ?_)
      obtain ⟨j_, hw⟩ := hw
      exact wk_X9_left_38 h h_s h_images h_tape h_draft h_items h_moved h_sizes h_lanes h_less h_aside h_order kept typed atv p1 p2  Q  C  j_ u_5 less u_4 order (-1 : Int32) (-1 : Int32) (-4 : Int32) (1 : Int32) H locs (hP.sub [3, 4, 0, 2, 1] rfl) (hD.sub [3, 4, 0, 2, 1] (by decide) rfl) hS ls (lv_sub hl [4, 5, 6, 3, 2, 1, 0] rfl) hw
    · replace hw := hw.2 c_3
      refine lv_iconst (v := (-1 : Int32)) hx hb dX9_left_16 (by decide) ?_
      have hP9 := hP
      have hD9 := hD
      exact W.iret (v := (-1 : Int32)) hx hb hr (fun t ht hW => ⟨⟨(-1 : Int32), (sv, less, aside, order), rfl, hw, by rw [ht]; exact hP9, hD9⟩, hS.F ht⟩) hS.2.2 dX9_left_17
/-! BattleBenchModel.winter(III)I -/
def wp_X9_winter_236 (sv : Nat → Int32) (p1 : Int32) (p2 : Int32) (p3 : Int32) (Q : Int32 → Prop)  : Nat → Int32 → Int32 → Int32 → Int32 → Prop
  | 0, _, _, _, _ => False
  | n + 1, x4, x5, x6, x7 =>
    (((x7 ≤ 0) → ((¬ (p3 = 0) → (¬ x6 = 0 ∧ Q (x5 / x6))) ∧ ((p3 = 0) → (¬ x6 = 0 ∧ Q (x4 / x6))))) ∧ (¬ (x7 ≤ 0) → (¬ x7 = 0 ∧ (∀ v_6 : Int32, v_6 = (x6 - x6 / x7 * x7) → wp_X9_winter_236 sv p1 p2 p3 Q  n x4 x5 x7 v_6))))
set_option maxHeartbeats 4000000 in
theorem wk_X9_winter_236 {p : Program} {l : Launch} {e : Env} {s : State} {m : MethodId} {below : List Frame} {meth : Method} {c : Code} {args : Array Value} {G : GT} {A : Nat → Prop} (h h_s h_images h_tape h_draft h_items h_moved h_sizes h_lanes h_less h_aside h_order : Nat) (kept : Int32) (typed : Int32) (atv : Int32) (sv : Nat → Int32) (p1 : Int32) (p2 : Int32) (p3 : Int32) (Q : Int32 → Prop)  (C : Cx p s m meth c cX9_winter 11 (some .int) RX9 args G A)  :
    ∀ (n : Nat), ∀  (x4 : Int32) (x5 : Int32) (x6 : Int32) (x7 : Int32) (H : Heap) (locs : List Loc), va_P G.1 gCl [oc h 9 [.ref h_s, .ref h_images, .int kept, .ref h_tape, .int typed, .ref h_draft, .int atv, .ref h_items, .ref h_moved, .ref h_sizes, .ref h_lanes, .ref h_less, .ref h_aside, .ref h_order], ai G h_s 161 sv] H → va_D A [oc h 9 [.ref h_s, .ref h_images, .int kept, .ref h_tape, .int typed, .ref h_draft, .int atv, .ref h_items, .ref h_moved, .ref h_sizes, .ref h_lanes, .ref h_less, .ref h_aside, .ref h_order], ai G h_s 161 sv] → va_S A s.heap H locs → ∀ (ls : Array Slot), lv_has ls 11 [(3, .int p3), (4, .int x4), (5, .int x5), (6, .int x6), (7, .int x7)] → wp_X9_winter_236 sv p1 p2 p3 Q  n x4 x5 x6 x7 → W p l e ({ frames := 1, cells := 0, slots := 0, locals := 29 } : Room) s m args below meth c H locs 0 0 (MQ below (va_Qi (fun (r : Int32) (u : Unit) => Q r ) (fun u t => va_P G.1 gCl [oc h 9 [.ref h_s, .ref h_images, .int kept, .ref h_tape, .int typed, .ref h_draft, .int atv, .ref h_items, .ref h_moved, .ref h_sizes, .ref h_lanes, .ref h_less, .ref h_aside, .ref h_order], ai G h_s 161 sv] t.heap ∧ va_D A [oc h 9 [.ref h_s, .ref h_images, .int kept, .ref h_tape, .int typed, .ref h_draft, .int atv, .ref h_items, .ref h_moved, .ref h_sizes, .ref h_lanes, .ref h_less, .ref h_aside, .ref h_order], ai G h_s 161 sv]) A) args s 0 0 A) (F0 m 236 ls []) := by
  have C9 := C
  obtain ⟨hx, hb, hr, hlocks, hml, hown, hts, hK, hA⟩ := C9
  intro n
  induction n with
  | zero => intro x4 x5 x6 x7 H locs hP hD hS ls hl hw; exact False.elim hw
  | succ n ih =>
    intro x4 x5 x6 x7 H locs hP hD hS ls hl hw
    unfold wp_X9_winter_236 at hw
    refine lv_iload hx hb dX9_winter_236 (lv_at hl 4 rfl) ?_
    refine lv_if_le (tgt := 259) hx hb dX9_winter_238 (by decide) (fun c_1 => ?_) (fun c_1 => ?_)
    · replace hw := hw.1 c_1
      refine lv_iload_n hx hb dX9_winter_259 rfl (lv_at hl 0 rfl) ?_
      refine lv_if_ne (tgt := 271) hx hb dX9_winter_260 (by decide) (fun c_2 => ?_) (fun c_2 => ?_)
      · replace hw := hw.1 c_2
        refine lv_iload hx hb dX9_winter_271 (lv_at hl 2 rfl) ?_
        refine lv_iload hx hb dX9_winter_273 (lv_at hl 3 rfl) ?_
        obtain ⟨c_3, hw⟩ := hw
        refine lv_idiv hx hb dX9_winter_275 c_3 ?_
        have hP9 := hP
        have hD9 := hD
        exact W.iret (v := (x5 / x6)) hx hb hr (fun t ht hW => ⟨⟨(x5 / x6), (), rfl, hw, by rw [ht]; exact hP9, hD9⟩, hS.F ht⟩) hS.2.2 dX9_winter_276
      · replace hw := hw.2 c_2
        refine lv_iload hx hb dX9_winter_263 (lv_at hl 1 rfl) ?_
        refine lv_iload hx hb dX9_winter_265 (lv_at hl 3 rfl) ?_
        obtain ⟨c_4, hw⟩ := hw
        refine lv_idiv hx hb dX9_winter_267 c_4 ?_
        refine lv_goto (tgt := 276) hx hb dX9_winter_268 (by decide) ?_
        have hP9 := hP
        have hD9 := hD
        exact W.iret (v := (x4 / x6)) hx hb hr (fun t ht hW => ⟨⟨(x4 / x6), (), rfl, hw, by rw [ht]; exact hP9, hD9⟩, hS.F ht⟩) hS.2.2 dX9_winter_276
    · replace hw := hw.2 c_1
      refine lv_iload hx hb dX9_winter_241 (lv_at hl 3 rfl) ?_
      refine lv_iload hx hb dX9_winter_243 (lv_at hl 4 rfl) ?_
      obtain ⟨c_5, hw⟩ := hw
      refine lv_irem hx hb dX9_winter_245 c_5 ?_
      refine lv_topi (fun v_6 ev_6 => ?_)
      replace hw := hw v_6 ev_6
      refine lv_istore (lv' := [(8, .int v_6), (3, .int p3), (4, .int x4), (5, .int x5), (6, .int x6), (7, .int x7)]) hx hb dX9_winter_246 hl (by decide) rfl (fun ls hl => ?_)
      refine lv_iload hx hb dX9_winter_248 (lv_at hl 5 rfl) ?_
      refine lv_istore (lv' := [(6, .int x7), (8, .int v_6), (3, .int p3), (4, .int x4), (5, .int x5), (7, .int x7)]) hx hb dX9_winter_250 hl (by decide) rfl (fun ls hl => ?_)
      refine lv_iload hx hb dX9_winter_252 (lv_at hl 1 rfl) ?_
      refine lv_istore (lv' := [(7, .int v_6), (6, .int x7), (8, .int v_6), (3, .int p3), (4, .int x4), (5, .int x5)]) hx hb dX9_winter_254 hl (by decide) rfl (fun ls hl => ?_)
      refine lv_goto (tgt := 236) hx hb dX9_winter_256 (by decide) ?_
      exact ih x4 x5 x7 v_6 H locs hP hD hS ls (lv_sub hl [3, 4, 5, 1, 0] rfl) hw
def wp_X9_winter_137 (sv : Nat → Int32) (p1 : Int32) (p2 : Int32) (p3 : Int32) (Q : Int32 → Prop) (K67 : Int32 → Int32 → Int32 → Prop) (K106 : Int32 → Int32 → Int32 → Int32 → Int32 → Int32 → Int32 → Prop) (x4 : Int32) (x5 : Int32) (x6 : Int32) (x8 : Int32) (x9 : Int32) (x10 : Int32) (y0 : Int32) (y1 : Int32) : Prop :=
  (∀ v_1 : Int32, v_1 = (y1 * y0) → wp_X9_has  x6 x10 (fun r_2 => (((r_2 = 0) → K106 x4 x5 x6 v_1 x8 x9 (x10 + (1 : Int32))) ∧ (¬ (r_2 = 0) → (((x9 = 0) → (vp_in ((10 : Int32) + x10) 161 ∧ (∀ v_6 : Int32, v_6 = (sv (((10 : Int32) + x10)).toNatClampNeg) → K106 x4 x5 x6 v_1 v_6 (0 : Int32) (x10 + (1 : Int32))))) ∧ (¬ (x9 = 0) → (((x8 = (-4 : Int32)) → (vp_in ((10 : Int32) + x10) 161 ∧ (∀ v_9 : Int32, v_9 = (sv (((10 : Int32) + x10)).toNatClampNeg) → K106 x4 x5 x6 v_1 v_9 (1 : Int32) (x10 + (1 : Int32))))) ∧ (¬ (x8 = (-4 : Int32)) → (vp_in ((10 : Int32) + x10) 161 ∧ wp_X9_stoodBy sv x8 (sv (((10 : Int32) + x10)).toNatClampNeg) (fun r_11 => (((r_11 = 0) → (vp_in ((10 : Int32) + x10) 161 ∧ (∀ v_14 : Int32, v_14 = (sv (((10 : Int32) + x10)).toNatClampNeg) → K106 x4 x5 x6 v_1 v_14 (0 : Int32) (x10 + (1 : Int32))))) ∧ (¬ (r_11 = 0) → (vp_in ((10 : Int32) + x10) 161 ∧ (∀ v_16 : Int32, v_16 = (sv (((10 : Int32) + x10)).toNatClampNeg) → K106 x4 x5 x6 v_1 v_16 (1 : Int32) (x10 + (1 : Int32))))))))))))))))
set_option maxHeartbeats 4000000 in
theorem wk_X9_winter_137 {p : Program} {l : Launch} {e : Env} {s : State} {m : MethodId} {below : List Frame} {meth : Method} {c : Code} {args : Array Value} {G : GT} {A : Nat → Prop} (h h_s h_images h_tape h_draft h_items h_moved h_sizes h_lanes h_less h_aside h_order : Nat) (kept : Int32) (typed : Int32) (atv : Int32) (sv : Nat → Int32) (p1 : Int32) (p2 : Int32) (p3 : Int32) (Q : Int32 → Prop) (K67 : Int32 → Int32 → Int32 → Prop) (K106 : Int32 → Int32 → Int32 → Int32 → Int32 → Int32 → Int32 → Prop) (C : Cx p s m meth c cX9_winter 11 (some .int) RX9 args G A) (hK67 : ∀  (x4 : Int32) (x5 : Int32) (x6 : Int32) (H : Heap) (locs : List Loc), va_P G.1 gCl [oc h 9 [.ref h_s, .ref h_images, .int kept, .ref h_tape, .int typed, .ref h_draft, .int atv, .ref h_items, .ref h_moved, .ref h_sizes, .ref h_lanes, .ref h_less, .ref h_aside, .ref h_order], ai G h_s 161 sv] H → va_D A [oc h 9 [.ref h_s, .ref h_images, .int kept, .ref h_tape, .int typed, .ref h_draft, .int atv, .ref h_items, .ref h_moved, .ref h_sizes, .ref h_lanes, .ref h_less, .ref h_aside, .ref h_order], ai G h_s 161 sv] → va_S A s.heap H locs → ∀ (ls : Array Slot), lv_has ls 11 [(0, .ref h), (1, .int p1), (2, .int p2), (3, .int p3), (4, .int x4), (5, .int x5), (6, .int x6)] → K67 x4 x5 x6 → W p l e ({ frames := 1, cells := 0, slots := 0, locals := 29 } : Room) s m args below meth c H locs 0 0 (MQ below (va_Qi (fun (r : Int32) (u : Unit) => Q r ) (fun u t => va_P G.1 gCl [oc h 9 [.ref h_s, .ref h_images, .int kept, .ref h_tape, .int typed, .ref h_draft, .int atv, .ref h_items, .ref h_moved, .ref h_sizes, .ref h_lanes, .ref h_less, .ref h_aside, .ref h_order], ai G h_s 161 sv] t.heap ∧ va_D A [oc h 9 [.ref h_s, .ref h_images, .int kept, .ref h_tape, .int typed, .ref h_draft, .int atv, .ref h_items, .ref h_moved, .ref h_sizes, .ref h_lanes, .ref h_less, .ref h_aside, .ref h_order], ai G h_s 161 sv]) A) args s 0 0 A) (F0 m 67 ls [])) (hK106 : ∀  (x4 : Int32) (x5 : Int32) (x6 : Int32) (x7 : Int32) (x8 : Int32) (x9 : Int32) (x10 : Int32) (H : Heap) (locs : List Loc), va_P G.1 gCl [oc h 9 [.ref h_s, .ref h_images, .int kept, .ref h_tape, .int typed, .ref h_draft, .int atv, .ref h_items, .ref h_moved, .ref h_sizes, .ref h_lanes, .ref h_less, .ref h_aside, .ref h_order], ai G h_s 161 sv] H → va_D A [oc h 9 [.ref h_s, .ref h_images, .int kept, .ref h_tape, .int typed, .ref h_draft, .int atv, .ref h_items, .ref h_moved, .ref h_sizes, .ref h_lanes, .ref h_less, .ref h_aside, .ref h_order], ai G h_s 161 sv] → va_S A s.heap H locs → ∀ (ls : Array Slot), lv_has ls 11 [(0, .ref h), (1, .int p1), (2, .int p2), (3, .int p3), (4, .int x4), (5, .int x5), (6, .int x6), (7, .int x7), (8, .int x8), (9, .int x9), (10, .int x10)] → K106 x4 x5 x6 x7 x8 x9 x10 → W p l e ({ frames := 1, cells := 0, slots := 0, locals := 29 } : Room) s m args below meth c H locs 0 0 (MQ below (va_Qi (fun (r : Int32) (u : Unit) => Q r ) (fun u t => va_P G.1 gCl [oc h 9 [.ref h_s, .ref h_images, .int kept, .ref h_tape, .int typed, .ref h_draft, .int atv, .ref h_items, .ref h_moved, .ref h_sizes, .ref h_lanes, .ref h_less, .ref h_aside, .ref h_order], ai G h_s 161 sv] t.heap ∧ va_D A [oc h 9 [.ref h_s, .ref h_images, .int kept, .ref h_tape, .int typed, .ref h_draft, .int atv, .ref h_items, .ref h_moved, .ref h_sizes, .ref h_lanes, .ref h_less, .ref h_aside, .ref h_order], ai G h_s 161 sv]) A) args s 0 0 A) (F0 m 106 ls [])) :
    ∀  (x4 : Int32) (x5 : Int32) (x6 : Int32) (x8 : Int32) (x9 : Int32) (x10 : Int32) (y0 : Int32) (y1 : Int32) (H : Heap) (locs : List Loc), va_P G.1 gCl [oc h 9 [.ref h_s, .ref h_images, .int kept, .ref h_tape, .int typed, .ref h_draft, .int atv, .ref h_items, .ref h_moved, .ref h_sizes, .ref h_lanes, .ref h_less, .ref h_aside, .ref h_order], ai G h_s 161 sv] H → va_D A [oc h 9 [.ref h_s, .ref h_images, .int kept, .ref h_tape, .int typed, .ref h_draft, .int atv, .ref h_items, .ref h_moved, .ref h_sizes, .ref h_lanes, .ref h_less, .ref h_aside, .ref h_order], ai G h_s 161 sv] → va_S A s.heap H locs → ∀ (ls : Array Slot), lv_has ls 11 [(0, .ref h), (1, .int p1), (2, .int p2), (3, .int p3), (4, .int x4), (5, .int x5), (6, .int x6), (8, .int x8), (9, .int x9), (10, .int x10)] → wp_X9_winter_137 sv p1 p2 p3 Q K67 K106  x4 x5 x6 x8 x9 x10 y0 y1 → W p l e ({ frames := 1, cells := 0, slots := 0, locals := 29 } : Room) s m args below meth c H locs 0 0 (MQ below (va_Qi (fun (r : Int32) (u : Unit) => Q r ) (fun u t => va_P G.1 gCl [oc h 9 [.ref h_s, .ref h_images, .int kept, .ref h_tape, .int typed, .ref h_draft, .int atv, .ref h_items, .ref h_moved, .ref h_sizes, .ref h_lanes, .ref h_less, .ref h_aside, .ref h_order], ai G h_s 161 sv] t.heap ∧ va_D A [oc h 9 [.ref h_s, .ref h_images, .int kept, .ref h_tape, .int typed, .ref h_draft, .int atv, .ref h_items, .ref h_moved, .ref h_sizes, .ref h_lanes, .ref h_less, .ref h_aside, .ref h_order], ai G h_s 161 sv]) A) args s 0 0 A) (F0 m 137 ls [.int y0, .int y1]) := by
  have C9 := C
  obtain ⟨hx, hb, hr, hlocks, hml, hown, hts, hK, hA⟩ := C9
  intro x4 x5 x6 x8 x9 x10 y0 y1 H locs hP hD hS ls hl hw
  unfold wp_X9_winter_137 at hw
  refine lv_imul hx hb dX9_winter_137 ?_
  refine lv_topi (fun v_1 ev_1 => ?_)
  replace hw := hw v_1 ev_1
  refine lv_istore (lv' := [(7, .int v_1), (0, .ref h), (1, .int p1), (2, .int p2), (3, .int p3), (4, .int x4), (5, .int x5), (6, .int x6), (8, .int x8), (9, .int x9), (10, .int x10)]) hx hb dX9_winter_138 hl (by decide) rfl (fun ls hl => ?_)
  refine lv_iload hx hb dX9_winter_140 (lv_at hl 7 rfl) ?_
  refine lv_iload hx hb dX9_winter_142 (lv_at hl 10 rfl) ?_
  have hPc := hP.sub (ws' := []) [] rfl
  have hDc := hD.sub (ws' := []) [] (by decide) rfl
  have hFc := va_free (wc := []) hD hS hA [] rfl
  refine va_calli (va_runS (As := [.int x6, .int x10]) (rest := []) ⟨hx, hb, hml, hown, hts⟩ (mt_X9_has l G  H.size  x6 x10 _ hw) (va_cwS 2 hts (lw_S q976 q977 q65 q978) rfl rfl rfl (by decide +kernel) ⟨Nat.le_of_ble_eq_true rfl, Nat.le_of_ble_eq_true rfl⟩) ⟨fun a U g mk q => by obtain ⟨q0, q1, qP, qK, qD⟩ := q; exact ⟨q0, q1, qP, qK.call, qD⟩, fun U hU hW => ⟨rfl, by rw [hU], by rw [hU]; exact hPc, hK.warm hW, hDc.weaken (fun _ _ _ _ => trivial)⟩⟩ rfl rfl hl.1 rfl (lv_room (Nat.le_of_ble_eq_true rfl)) dX9_winter_144 ⟨Nat.le_of_ble_eq_true rfl, Nat.le_of_ble_eq_true rfl⟩) hS (fun q _ h => hFc q h) hFc (fun r_2 _ t H1 locs ht hvm hw hB hz1 hk1 hS => ?_)
  obtain ⟨hP1, hD1⟩ := hB
  rw [ht] at hP1
  obtain ⟨hP, hD⟩ := va_join (wr := [oc h 9 [.ref h_s, .ref h_images, .int kept, .ref h_tape, .int typed, .ref h_draft, .int atv, .ref h_items, .ref h_moved, .ref h_sizes, .ref h_lanes, .ref h_less, .ref h_aside, .ref h_order], ai G h_s 161 sv]) (w1 := []) hP hD [] [0, 1] rfl rfl (by decide) (by decide) hk1 hFc hP1 hD1
  clear hPc hDc hFc hP1 hD1 hz1 hk1 hvm
  generalize H1 = H at hP hS ⊢
  have hP : va_P G.1 gCl [oc h 9 [.ref h_s, .ref h_images, .int kept, .ref h_tape, .int typed, .ref h_draft, .int atv, .ref h_items, .ref h_moved, .ref h_sizes, .ref h_lanes, .ref h_less, .ref h_aside, .ref h_order], ai G h_s 161 sv] H := hP
  have hD : va_D A [oc h 9 [.ref h_s, .ref h_images, .int kept, .ref h_tape, .int typed, .ref h_draft, .int atv, .ref h_items, .ref h_moved, .ref h_sizes, .ref h_lanes, .ref h_less, .ref h_aside, .ref h_order], ai G h_s 161 sv] := hD
  refine lv_if_eq (tgt := 200) hx hb dX9_winter_147 (by decide) (fun c_3 => ?_) (fun c_3 => ?_)
  · replace hw := hw.1 c_3
    refine lv_iinc (v := (x10 + (1 : Int32))) (lv' := [(10, .int (x10 + (1 : Int32))), (7, .int v_1), (0, .ref h), (1, .int p1), (2, .int p2), (3, .int p3), (4, .int x4), (5, .int x5), (6, .int x6), (8, .int x8), (9, .int x9)]) hx hb dX9_winter_200 hl (k := 10) rfl rfl (by decide) rfl (fun ls hl => ?_)
    refine lv_goto (tgt := 106) hx hb dX9_winter_203 (by decide) ?_
    exact hK106 x4 x5 x6 v_1 x8 x9 (x10 + (1 : Int32)) H locs hP hD hS ls (lv_sub hl [2, 3, 4, 5, 6, 7, 8, 1, 9, 10, 0] rfl) hw
  · replace hw := hw.2 c_3
    refine lv_iload hx hb dX9_winter_150 (lv_at hl 9 rfl) ?_
    refine lv_if_eq (tgt := 185) hx hb dX9_winter_152 (by decide) (fun c_4 => ?_) (fun c_4 => ?_)
    · replace hw := hw.1 c_4
      refine lv_iconst (v := (0 : Int32)) hx hb dX9_winter_185 (by decide) ?_
      refine lv_istore (lv' := [(9, .int (0 : Int32)), (7, .int v_1), (0, .ref h), (1, .int p1), (2, .int p2), (3, .int p3), (4, .int x4), (5, .int x5), (6, .int x6), (8, .int x8), (10, .int x10)]) hx hb dX9_winter_186 hl (by decide) rfl (fun ls hl => ?_)
      refine lv_aload_n hx hb dX9_winter_188 rfl (lv_at hl 2 rfl) ?_
      refine va_get (D := G.1) (ci := 9) (v := .ref h_s) (C := RX9) (T := TX9) (N := 14) hx hb hts in_X9 hown hK.1 hP 0 rfl rfl 0 (by decide) (hts _ q817) (fun _ h9 => h9) rfl dX9_winter_189 ?_
      refine lv_bipush (v := (10 : Int32)) hx hb dX9_winter_192 (by decide) ?_
      refine lv_iload hx hb dX9_winter_194 (lv_at hl 10 rfl) ?_
      refine lv_iadd hx hb dX9_winter_196 ?_
      obtain ⟨i_5, hw⟩ := hw
      refine z_iald hx hb hK.1 hP 1 0 rfl rfl i_5 dX9_winter_197 (k := (((10 : Int32) + x10)).toNatClampNeg) rfl ?_
      refine lv_topi (fun v_6 ev_6 => ?_)
      replace hw := hw v_6 ev_6
      refine lv_istore (lv' := [(8, .int v_6), (9, .int (0 : Int32)), (7, .int v_1), (0, .ref h), (1, .int p1), (2, .int p2), (3, .int p3), (4, .int x4), (5, .int x5), (6, .int x6), (10, .int x10)]) hx hb dX9_winter_198 hl (by decide) rfl (fun ls hl => ?_)
      refine lv_iinc (v := (x10 + (1 : Int32))) (lv' := [(10, .int (x10 + (1 : Int32))), (8, .int v_6), (9, .int (0 : Int32)), (7, .int v_1), (0, .ref h), (1, .int p1), (2, .int p2), (3, .int p3), (4, .int x4), (5, .int x5), (6, .int x6)]) hx hb dX9_winter_200 hl (k := 10) rfl rfl (by decide) rfl (fun ls hl => ?_)
      refine lv_goto (tgt := 106) hx hb dX9_winter_203 (by decide) ?_
      exact hK106 x4 x5 x6 v_1 v_6 (0 : Int32) (x10 + (1 : Int32)) H locs hP hD hS ls (lv_sub hl [4, 5, 6, 7, 8, 9, 10, 3, 1, 2, 0] rfl) hw
    · replace hw := hw.2 c_4
      refine lv_iload hx hb dX9_winter_155 (lv_at hl 8 rfl) ?_
      refine lv_bipush (v := (-4 : Int32)) hx hb dX9_winter_157 (by decide) ?_
      refine lv_icmp_eq (tgt := 181) hx hb dX9_winter_159 (by decide) (fun c_7 => ?_) (fun c_7 => ?_)
      · replace hw := hw.1 c_7
        refine lv_iconst (v := (1 : Int32)) hx hb dX9_winter_181 (by decide) ?_
        refine lv_goto (tgt := 186) hx hb dX9_winter_182 (by decide) ?_
        refine lv_istore (lv' := [(9, .int (1 : Int32)), (7, .int v_1), (0, .ref h), (1, .int p1), (2, .int p2), (3, .int p3), (4, .int x4), (5, .int x5), (6, .int x6), (8, .int x8), (10, .int x10)]) hx hb dX9_winter_186 hl (by decide) rfl (fun ls hl => ?_)
        refine lv_aload_n hx hb dX9_winter_188 rfl (lv_at hl 2 rfl) ?_
        refine va_get (D := G.1) (ci := 9) (v := .ref h_s) (C := RX9) (T := TX9) (N := 14) hx hb hts in_X9 hown hK.1 hP 0 rfl rfl 0 (by decide) (hts _ q817) (fun _ h9 => h9) rfl dX9_winter_189 ?_
        refine lv_bipush (v := (10 : Int32)) hx hb dX9_winter_192 (by decide) ?_
        refine lv_iload hx hb dX9_winter_194 (lv_at hl 10 rfl) ?_
        refine lv_iadd hx hb dX9_winter_196 ?_
        obtain ⟨i_8, hw⟩ := hw
        refine z_iald hx hb hK.1 hP 1 0 rfl rfl i_8 dX9_winter_197 (k := (((10 : Int32) + x10)).toNatClampNeg) rfl ?_
        refine lv_topi (fun v_9 ev_9 => ?_)
        replace hw := hw v_9 ev_9
        refine lv_istore (lv' := [(8, .int v_9), (9, .int (1 : Int32)), (7, .int v_1), (0, .ref h), (1, .int p1), (2, .int p2), (3, .int p3), (4, .int x4), (5, .int x5), (6, .int x6), (10, .int x10)]) hx hb dX9_winter_198 hl (by decide) rfl (fun ls hl => ?_)
        refine lv_iinc (v := (x10 + (1 : Int32))) (lv' := [(10, .int (x10 + (1 : Int32))), (8, .int v_9), (9, .int (1 : Int32)), (7, .int v_1), (0, .ref h), (1, .int p1), (2, .int p2), (3, .int p3), (4, .int x4), (5, .int x5), (6, .int x6)]) hx hb dX9_winter_200 hl (k := 10) rfl rfl (by decide) rfl (fun ls hl => ?_)
        refine lv_goto (tgt := 106) hx hb dX9_winter_203 (by decide) ?_
        exact hK106 x4 x5 x6 v_1 v_9 (1 : Int32) (x10 + (1 : Int32)) H locs hP hD hS ls (lv_sub hl [4, 5, 6, 7, 8, 9, 10, 3, 1, 2, 0] rfl) hw
      · replace hw := hw.2 c_7
        refine lv_aload_n hx hb dX9_winter_162 rfl (lv_at hl 1 rfl) ?_
        refine lv_iload hx hb dX9_winter_163 (lv_at hl 8 rfl) ?_
        refine lv_aload_n hx hb dX9_winter_165 rfl (lv_at hl 1 rfl) ?_
        refine va_get (D := G.1) (ci := 9) (v := .ref h_s) (C := RX9) (T := TX9) (N := 14) hx hb hts in_X9 hown hK.1 hP 0 rfl rfl 0 (by decide) (hts _ q817) (fun _ h9 => h9) rfl dX9_winter_166 ?_
        refine lv_bipush (v := (10 : Int32)) hx hb dX9_winter_169 (by decide) ?_
        refine lv_iload hx hb dX9_winter_171 (lv_at hl 10 rfl) ?_
        refine lv_iadd hx hb dX9_winter_173 ?_
        obtain ⟨i_10, hw⟩ := hw
        refine z_iald hx hb hK.1 hP 1 0 rfl rfl i_10 dX9_winter_174 (k := (((10 : Int32) + x10)).toNatClampNeg) rfl ?_
        have hPc := hP.sub (ws' := [oc h 9 [.ref h_s, .ref h_images, .int kept, .ref h_tape, .int typed, .ref h_draft, .int atv, .ref h_items, .ref h_moved, .ref h_sizes, .ref h_lanes, .ref h_less, .ref h_aside, .ref h_order], ai G h_s 161 sv]) [0, 1] rfl
        have hDc := hD.sub (ws' := [oc h 9 [.ref h_s, .ref h_images, .int kept, .ref h_tape, .int typed, .ref h_draft, .int atv, .ref h_items, .ref h_moved, .ref h_sizes, .ref h_lanes, .ref h_less, .ref h_aside, .ref h_order], ai G h_s 161 sv]) [0, 1] (by decide) rfl
        have hFc := va_free (wc := [oc h 9 [.ref h_s, .ref h_images, .int kept, .ref h_tape, .int typed, .ref h_draft, .int atv, .ref h_items, .ref h_moved, .ref h_sizes, .ref h_lanes, .ref h_less, .ref h_aside, .ref h_order], ai G h_s 161 sv]) hD hS hA [0, 1] rfl
        refine va_calli (va_runV (As := [.int x8, .int (sv (((10 : Int32) + x10)).toNatClampNeg)]) (rest := []) ⟨hx, hb, hml, hown, hts⟩ (mt_X9_stoodBy l G h h_s h_images h_tape h_draft h_items h_moved h_sizes h_lanes h_less h_aside h_order H.size kept typed atv sv x8 (sv (((10 : Int32) + x10)).toNatClampNeg) _ hw) (cwV 2 hts (lw_V q891 q893 qs30 q65 q894) rfl rfl rfl (by decide +kernel) ⟨Nat.le_of_ble_eq_true rfl, Nat.le_of_ble_eq_true rfl⟩) ⟨fun a U g mk q => by obtain ⟨q0, q1, qP, qK, qD⟩ := q; exact ⟨q0, q1, qP, qK.call, qD⟩, va_recv hK.1 hP (ci := 9) (q0 := 0) rfl rfl, fun U hU hW => ⟨rfl, by rw [hU], by rw [hU]; exact hPc, hK.warm hW, hDc.weaken (fun _ _ _ _ => trivial)⟩⟩ rfl rfl hl.1 rfl (lv_room (Nat.le_of_ble_eq_true rfl)) dX9_winter_175 ⟨Nat.le_of_ble_eq_true rfl, Nat.le_of_ble_eq_true rfl⟩) hS (fun q _ h => hFc q h) hFc (fun r_11 _ t H1 locs ht hvm hw hB hz1 hk1 hS => ?_)
        obtain ⟨hP1, hD1⟩ := hB
        rw [ht] at hP1
        obtain ⟨hP, hD⟩ := va_join (wr := []) (w1 := [oc h 9 [.ref h_s, .ref h_images, .int kept, .ref h_tape, .int typed, .ref h_draft, .int atv, .ref h_items, .ref h_moved, .ref h_sizes, .ref h_lanes, .ref h_less, .ref h_aside, .ref h_order], ai G h_s 161 sv]) hP hD [0, 1] [] rfl rfl (by decide) (by decide) hk1 hFc hP1 hD1
        clear hPc hDc hFc hP1 hD1 hz1 hk1 hvm
        generalize H1 = H at hP hS ⊢
        have hP : va_P G.1 gCl [oc h 9 [.ref h_s, .ref h_images, .int kept, .ref h_tape, .int typed, .ref h_draft, .int atv, .ref h_items, .ref h_moved, .ref h_sizes, .ref h_lanes, .ref h_less, .ref h_aside, .ref h_order], ai G h_s 161 sv] H := hP
        have hD : va_D A [oc h 9 [.ref h_s, .ref h_images, .int kept, .ref h_tape, .int typed, .ref h_draft, .int atv, .ref h_items, .ref h_moved, .ref h_sizes, .ref h_lanes, .ref h_less, .ref h_aside, .ref h_order], ai G h_s 161 sv] := hD
        refine lv_if_eq (tgt := 185) hx hb dX9_winter_178 (by decide) (fun c_12 => ?_) (fun c_12 => ?_)
        · replace hw := hw.1 c_12
          refine lv_iconst (v := (0 : Int32)) hx hb dX9_winter_185 (by decide) ?_
          refine lv_istore (lv' := [(9, .int (0 : Int32)), (7, .int v_1), (0, .ref h), (1, .int p1), (2, .int p2), (3, .int p3), (4, .int x4), (5, .int x5), (6, .int x6), (8, .int x8), (10, .int x10)]) hx hb dX9_winter_186 hl (by decide) rfl (fun ls hl => ?_)
          refine lv_aload_n hx hb dX9_winter_188 rfl (lv_at hl 2 rfl) ?_
          refine va_get (D := G.1) (ci := 9) (v := .ref h_s) (C := RX9) (T := TX9) (N := 14) hx hb hts in_X9 hown hK.1 hP 0 rfl rfl 0 (by decide) (hts _ q817) (fun _ h9 => h9) rfl dX9_winter_189 ?_
          refine lv_bipush (v := (10 : Int32)) hx hb dX9_winter_192 (by decide) ?_
          refine lv_iload hx hb dX9_winter_194 (lv_at hl 10 rfl) ?_
          refine lv_iadd hx hb dX9_winter_196 ?_
          obtain ⟨i_13, hw⟩ := hw
          refine z_iald hx hb hK.1 hP 1 0 rfl rfl i_13 dX9_winter_197 (k := (((10 : Int32) + x10)).toNatClampNeg) rfl ?_
          refine lv_topi (fun v_14 ev_14 => ?_)
          replace hw := hw v_14 ev_14
          refine lv_istore (lv' := [(8, .int v_14), (9, .int (0 : Int32)), (7, .int v_1), (0, .ref h), (1, .int p1), (2, .int p2), (3, .int p3), (4, .int x4), (5, .int x5), (6, .int x6), (10, .int x10)]) hx hb dX9_winter_198 hl (by decide) rfl (fun ls hl => ?_)
          refine lv_iinc (v := (x10 + (1 : Int32))) (lv' := [(10, .int (x10 + (1 : Int32))), (8, .int v_14), (9, .int (0 : Int32)), (7, .int v_1), (0, .ref h), (1, .int p1), (2, .int p2), (3, .int p3), (4, .int x4), (5, .int x5), (6, .int x6)]) hx hb dX9_winter_200 hl (k := 10) rfl rfl (by decide) rfl (fun ls hl => ?_)
          refine lv_goto (tgt := 106) hx hb dX9_winter_203 (by decide) ?_
          exact hK106 x4 x5 x6 v_1 v_14 (0 : Int32) (x10 + (1 : Int32)) H locs hP hD hS ls (lv_sub hl [4, 5, 6, 7, 8, 9, 10, 3, 1, 2, 0] rfl) hw
        · replace hw := hw.2 c_12
          refine lv_iconst (v := (1 : Int32)) hx hb dX9_winter_181 (by decide) ?_
          refine lv_goto (tgt := 186) hx hb dX9_winter_182 (by decide) ?_
          refine lv_istore (lv' := [(9, .int (1 : Int32)), (7, .int v_1), (0, .ref h), (1, .int p1), (2, .int p2), (3, .int p3), (4, .int x4), (5, .int x5), (6, .int x6), (8, .int x8), (10, .int x10)]) hx hb dX9_winter_186 hl (by decide) rfl (fun ls hl => ?_)
          refine lv_aload_n hx hb dX9_winter_188 rfl (lv_at hl 2 rfl) ?_
          refine va_get (D := G.1) (ci := 9) (v := .ref h_s) (C := RX9) (T := TX9) (N := 14) hx hb hts in_X9 hown hK.1 hP 0 rfl rfl 0 (by decide) (hts _ q817) (fun _ h9 => h9) rfl dX9_winter_189 ?_
          refine lv_bipush (v := (10 : Int32)) hx hb dX9_winter_192 (by decide) ?_
          refine lv_iload hx hb dX9_winter_194 (lv_at hl 10 rfl) ?_
          refine lv_iadd hx hb dX9_winter_196 ?_
          obtain ⟨i_15, hw⟩ := hw
          refine z_iald hx hb hK.1 hP 1 0 rfl rfl i_15 dX9_winter_197 (k := (((10 : Int32) + x10)).toNatClampNeg) rfl ?_
          refine lv_topi (fun v_16 ev_16 => ?_)
          replace hw := hw v_16 ev_16
          refine lv_istore (lv' := [(8, .int v_16), (9, .int (1 : Int32)), (7, .int v_1), (0, .ref h), (1, .int p1), (2, .int p2), (3, .int p3), (4, .int x4), (5, .int x5), (6, .int x6), (10, .int x10)]) hx hb dX9_winter_198 hl (by decide) rfl (fun ls hl => ?_)
          refine lv_iinc (v := (x10 + (1 : Int32))) (lv' := [(10, .int (x10 + (1 : Int32))), (8, .int v_16), (9, .int (1 : Int32)), (7, .int v_1), (0, .ref h), (1, .int p1), (2, .int p2), (3, .int p3), (4, .int x4), (5, .int x5), (6, .int x6)]) hx hb dX9_winter_200 hl (k := 10) rfl rfl (by decide) rfl (fun ls hl => ?_)
          refine lv_goto (tgt := 106) hx hb dX9_winter_203 (by decide) ?_
          exact hK106 x4 x5 x6 v_1 v_16 (1 : Int32) (x10 + (1 : Int32)) H locs hP hD hS ls (lv_sub hl [4, 5, 6, 7, 8, 9, 10, 3, 1, 2, 0] rfl) hw
def wp_X9_winter_106 (sv : Nat → Int32) (p1 : Int32) (p2 : Int32) (p3 : Int32) (Q : Int32 → Prop) (K67 : Int32 → Int32 → Int32 → Prop) : Nat → Int32 → Int32 → Int32 → Int32 → Int32 → Int32 → Int32 → Prop
  | 0, _, _, _, _, _, _, _ => False
  | n + 1, x4, x5, x6, x7, x8, x9, x10 =>
    ((((sv 1) ≤ x10) → (((x9 = 0) → (∀ v_3 : Int32, v_3 = (x4 + (0 : Int32)) → K67 v_3 x5 (x6 + (1 : Int32)))) ∧ (¬ (x9 = 0) → (∀ v_4 : Int32, v_4 = (x4 + x7) → K67 v_4 x5 (x6 + (1 : Int32)))))) ∧ (¬ ((sv 1) ≤ x10) → wp_X9_has  x6 x10 (fun r_5 => (((r_5 = 0) → wp_X9_winter_137 sv p1 p2 p3 Q K67 (fun a0_ a1_ a2_ a3_ a4_ a5_ a6_ => wp_X9_winter_106 sv p1 p2 p3 Q K67 n a0_ a1_ a2_ a3_ a4_ a5_ a6_) x4 x5 x6 x8 x9 x10 p2 x7) ∧ (¬ (r_5 = 0) → wp_X9_winter_137 sv p1 p2 p3 Q K67 (fun a0_ a1_ a2_ a3_ a4_ a5_ a6_ => wp_X9_winter_106 sv p1 p2 p3 Q K67 n a0_ a1_ a2_ a3_ a4_ a5_ a6_) x4 x5 x6 x8 x9 x10 ((10 : Int32) - p2) x7)))))
set_option maxHeartbeats 4000000 in
theorem wk_X9_winter_106 {p : Program} {l : Launch} {e : Env} {s : State} {m : MethodId} {below : List Frame} {meth : Method} {c : Code} {args : Array Value} {G : GT} {A : Nat → Prop} (h h_s h_images h_tape h_draft h_items h_moved h_sizes h_lanes h_less h_aside h_order : Nat) (kept : Int32) (typed : Int32) (atv : Int32) (sv : Nat → Int32) (p1 : Int32) (p2 : Int32) (p3 : Int32) (Q : Int32 → Prop) (K67 : Int32 → Int32 → Int32 → Prop) (C : Cx p s m meth c cX9_winter 11 (some .int) RX9 args G A) (hK67 : ∀  (x4 : Int32) (x5 : Int32) (x6 : Int32) (H : Heap) (locs : List Loc), va_P G.1 gCl [oc h 9 [.ref h_s, .ref h_images, .int kept, .ref h_tape, .int typed, .ref h_draft, .int atv, .ref h_items, .ref h_moved, .ref h_sizes, .ref h_lanes, .ref h_less, .ref h_aside, .ref h_order], ai G h_s 161 sv] H → va_D A [oc h 9 [.ref h_s, .ref h_images, .int kept, .ref h_tape, .int typed, .ref h_draft, .int atv, .ref h_items, .ref h_moved, .ref h_sizes, .ref h_lanes, .ref h_less, .ref h_aside, .ref h_order], ai G h_s 161 sv] → va_S A s.heap H locs → ∀ (ls : Array Slot), lv_has ls 11 [(0, .ref h), (1, .int p1), (2, .int p2), (3, .int p3), (4, .int x4), (5, .int x5), (6, .int x6)] → K67 x4 x5 x6 → W p l e ({ frames := 1, cells := 0, slots := 0, locals := 29 } : Room) s m args below meth c H locs 0 0 (MQ below (va_Qi (fun (r : Int32) (u : Unit) => Q r ) (fun u t => va_P G.1 gCl [oc h 9 [.ref h_s, .ref h_images, .int kept, .ref h_tape, .int typed, .ref h_draft, .int atv, .ref h_items, .ref h_moved, .ref h_sizes, .ref h_lanes, .ref h_less, .ref h_aside, .ref h_order], ai G h_s 161 sv] t.heap ∧ va_D A [oc h 9 [.ref h_s, .ref h_images, .int kept, .ref h_tape, .int typed, .ref h_draft, .int atv, .ref h_items, .ref h_moved, .ref h_sizes, .ref h_lanes, .ref h_less, .ref h_aside, .ref h_order], ai G h_s 161 sv]) A) args s 0 0 A) (F0 m 67 ls [])) :
    ∀ (n : Nat), ∀  (x4 : Int32) (x5 : Int32) (x6 : Int32) (x7 : Int32) (x8 : Int32) (x9 : Int32) (x10 : Int32) (H : Heap) (locs : List Loc), va_P G.1 gCl [oc h 9 [.ref h_s, .ref h_images, .int kept, .ref h_tape, .int typed, .ref h_draft, .int atv, .ref h_items, .ref h_moved, .ref h_sizes, .ref h_lanes, .ref h_less, .ref h_aside, .ref h_order], ai G h_s 161 sv] H → va_D A [oc h 9 [.ref h_s, .ref h_images, .int kept, .ref h_tape, .int typed, .ref h_draft, .int atv, .ref h_items, .ref h_moved, .ref h_sizes, .ref h_lanes, .ref h_less, .ref h_aside, .ref h_order], ai G h_s 161 sv] → va_S A s.heap H locs → ∀ (ls : Array Slot), lv_has ls 11 [(0, .ref h), (1, .int p1), (2, .int p2), (3, .int p3), (4, .int x4), (5, .int x5), (6, .int x6), (7, .int x7), (8, .int x8), (9, .int x9), (10, .int x10)] → wp_X9_winter_106 sv p1 p2 p3 Q K67 n x4 x5 x6 x7 x8 x9 x10 → W p l e ({ frames := 1, cells := 0, slots := 0, locals := 29 } : Room) s m args below meth c H locs 0 0 (MQ below (va_Qi (fun (r : Int32) (u : Unit) => Q r ) (fun u t => va_P G.1 gCl [oc h 9 [.ref h_s, .ref h_images, .int kept, .ref h_tape, .int typed, .ref h_draft, .int atv, .ref h_items, .ref h_moved, .ref h_sizes, .ref h_lanes, .ref h_less, .ref h_aside, .ref h_order], ai G h_s 161 sv] t.heap ∧ va_D A [oc h 9 [.ref h_s, .ref h_images, .int kept, .ref h_tape, .int typed, .ref h_draft, .int atv, .ref h_items, .ref h_moved, .ref h_sizes, .ref h_lanes, .ref h_less, .ref h_aside, .ref h_order], ai G h_s 161 sv]) A) args s 0 0 A) (F0 m 106 ls []) := by
  have C9 := C
  obtain ⟨hx, hb, hr, hlocks, hml, hown, hts, hK, hA⟩ := C9
  intro n
  induction n with
  | zero => intro x4 x5 x6 x7 x8 x9 x10 H locs hP hD hS ls hl hw; exact False.elim hw
  | succ n ih =>
    intro x4 x5 x6 x7 x8 x9 x10 H locs hP hD hS ls hl hw
    unfold wp_X9_winter_106 at hw
    refine lv_iload hx hb dX9_winter_106 (lv_at hl 10 rfl) ?_
    refine lv_aload_n hx hb dX9_winter_108 rfl (lv_at hl 0 rfl) ?_
    refine va_get (D := G.1) (ci := 9) (v := .ref h_s) (C := RX9) (T := TX9) (N := 14) hx hb hts in_X9 hown hK.1 hP 0 rfl rfl 0 (by decide) (hts _ q817) (fun _ h9 => h9) rfl dX9_winter_109 ?_
    refine lv_iconst (v := (1 : Int32)) hx hb dX9_winter_112 (by decide) ?_
    refine z_iald hx hb hK.1 hP 1 0 rfl rfl (vin_l (by decide +kernel)) dX9_winter_113 (k := 1) rfl ?_
    refine lv_icmp_ge (tgt := 206) hx hb dX9_winter_114 (by decide) (fun c_1 => ?_) (fun c_1 => ?_)
    · replace hw := hw.1 c_1
      refine lv_iload hx hb dX9_winter_206 (lv_at hl 4 rfl) ?_
      refine lv_iload hx hb dX9_winter_208 (lv_at hl 9 rfl) ?_
      refine lv_if_eq (tgt := 218) hx hb dX9_winter_210 (by decide) (fun c_2 => ?_) (fun c_2 => ?_)
      · replace hw := hw.1 c_2
        refine lv_iconst (v := (0 : Int32)) hx hb dX9_winter_218 (by decide) ?_
        refine lv_iadd hx hb dX9_winter_219 ?_
        refine lv_topi (fun v_3 ev_3 => ?_)
        replace hw := hw v_3 ev_3
        refine lv_istore (lv' := [(4, .int v_3), (0, .ref h), (1, .int p1), (2, .int p2), (3, .int p3), (5, .int x5), (6, .int x6), (7, .int x7), (8, .int x8), (9, .int x9), (10, .int x10)]) hx hb dX9_winter_220 hl (by decide) rfl (fun ls hl => ?_)
        refine lv_iinc (v := (x6 + (1 : Int32))) (lv' := [(6, .int (x6 + (1 : Int32))), (4, .int v_3), (0, .ref h), (1, .int p1), (2, .int p2), (3, .int p3), (5, .int x5), (7, .int x7), (8, .int x8), (9, .int x9), (10, .int x10)]) hx hb dX9_winter_222 hl (k := 6) rfl rfl (by decide) rfl (fun ls hl => ?_)
        refine lv_goto (tgt := 67) hx hb dX9_winter_225 (by decide) ?_
        exact hK67 v_3 x5 (x6 + (1 : Int32)) H locs hP hD hS ls (lv_sub hl [2, 3, 4, 5, 1, 6, 0] rfl) hw
      · replace hw := hw.2 c_2
        refine lv_iload hx hb dX9_winter_213 (lv_at hl 7 rfl) ?_
        refine lv_goto (tgt := 219) hx hb dX9_winter_215 (by decide) ?_
        refine lv_iadd hx hb dX9_winter_219 ?_
        refine lv_topi (fun v_4 ev_4 => ?_)
        replace hw := hw v_4 ev_4
        refine lv_istore (lv' := [(4, .int v_4), (0, .ref h), (1, .int p1), (2, .int p2), (3, .int p3), (5, .int x5), (6, .int x6), (7, .int x7), (8, .int x8), (9, .int x9), (10, .int x10)]) hx hb dX9_winter_220 hl (by decide) rfl (fun ls hl => ?_)
        refine lv_iinc (v := (x6 + (1 : Int32))) (lv' := [(6, .int (x6 + (1 : Int32))), (4, .int v_4), (0, .ref h), (1, .int p1), (2, .int p2), (3, .int p3), (5, .int x5), (7, .int x7), (8, .int x8), (9, .int x9), (10, .int x10)]) hx hb dX9_winter_222 hl (k := 6) rfl rfl (by decide) rfl (fun ls hl => ?_)
        refine lv_goto (tgt := 67) hx hb dX9_winter_225 (by decide) ?_
        exact hK67 v_4 x5 (x6 + (1 : Int32)) H locs hP hD hS ls (lv_sub hl [2, 3, 4, 5, 1, 6, 0] rfl) hw
    · replace hw := hw.2 c_1
      refine lv_iload hx hb dX9_winter_117 (lv_at hl 7 rfl) ?_
      refine lv_iload hx hb dX9_winter_119 (lv_at hl 6 rfl) ?_
      refine lv_iload hx hb dX9_winter_121 (lv_at hl 10 rfl) ?_
      have hPc := hP.sub (ws' := []) [] rfl
      have hDc := hD.sub (ws' := []) [] (by decide) rfl
      have hFc := va_free (wc := []) hD hS hA [] rfl
      refine va_calli (va_runS (As := [.int x6, .int x10]) (rest := [.int x7]) ⟨hx, hb, hml, hown, hts⟩ (mt_X9_has l G  H.size  x6 x10 _ hw) (va_cwS 2 hts (lw_S q976 q977 q65 q978) rfl rfl rfl (by decide +kernel) ⟨Nat.le_of_ble_eq_true rfl, Nat.le_of_ble_eq_true rfl⟩) ⟨fun a U g mk q => by obtain ⟨q0, q1, qP, qK, qD⟩ := q; exact ⟨q0, q1, qP, qK.call, qD⟩, fun U hU hW => ⟨rfl, by rw [hU], by rw [hU]; exact hPc, hK.warm hW, hDc.weaken (fun _ _ _ _ => trivial)⟩⟩ rfl rfl hl.1 rfl (lv_room (Nat.le_of_ble_eq_true rfl)) dX9_winter_123 ⟨Nat.le_of_ble_eq_true rfl, Nat.le_of_ble_eq_true rfl⟩) hS (fun q _ h => hFc q h) hFc (fun r_5 _ t H1 locs ht hvm hw hB hz1 hk1 hS => ?_)
      obtain ⟨hP1, hD1⟩ := hB
      rw [ht] at hP1
      obtain ⟨hP, hD⟩ := va_join (wr := [oc h 9 [.ref h_s, .ref h_images, .int kept, .ref h_tape, .int typed, .ref h_draft, .int atv, .ref h_items, .ref h_moved, .ref h_sizes, .ref h_lanes, .ref h_less, .ref h_aside, .ref h_order], ai G h_s 161 sv]) (w1 := []) hP hD [] [0, 1] rfl rfl (by decide) (by decide) hk1 hFc hP1 hD1
      clear hPc hDc hFc hP1 hD1 hz1 hk1 hvm
      generalize H1 = H at hP hS ⊢
      have hP : va_P G.1 gCl [oc h 9 [.ref h_s, .ref h_images, .int kept, .ref h_tape, .int typed, .ref h_draft, .int atv, .ref h_items, .ref h_moved, .ref h_sizes, .ref h_lanes, .ref h_less, .ref h_aside, .ref h_order], ai G h_s 161 sv] H := hP
      have hD : va_D A [oc h 9 [.ref h_s, .ref h_images, .int kept, .ref h_tape, .int typed, .ref h_draft, .int atv, .ref h_items, .ref h_moved, .ref h_sizes, .ref h_lanes, .ref h_less, .ref h_aside, .ref h_order], ai G h_s 161 sv] := hD
      refine lv_if_eq (tgt := 136) hx hb dX9_winter_126 (by decide) (fun c_6 => ?_) (fun c_6 => ?_)
      · replace hw := hw.1 c_6
        refine lv_iload_n hx hb dX9_winter_136 rfl (lv_at hl 2 rfl) ?_
        exact wk_X9_winter_137 h h_s h_images h_tape h_draft h_items h_moved h_sizes h_lanes h_less h_aside h_order kept typed atv sv p1 p2 p3  Q K67 (fun a0_ a1_ a2_ a3_ a4_ a5_ a6_ => wp_X9_winter_106 sv p1 p2 p3 Q K67 n a0_ a1_ a2_ a3_ a4_ a5_ a6_) C hK67 ih x4 x5 x6 x8 x9 x10 p2 x7 H locs hP hD hS ls (lv_sub hl [0, 1, 2, 3, 4, 5, 6, 8, 9, 10] rfl) hw
      · replace hw := hw.2 c_6
        refine lv_bipush (v := (10 : Int32)) hx hb dX9_winter_129 (by decide) ?_
        refine lv_iload_n hx hb dX9_winter_131 rfl (lv_at hl 2 rfl) ?_
        refine lv_isub hx hb dX9_winter_132 ?_
        refine lv_goto (tgt := 137) hx hb dX9_winter_133 (by decide) ?_
        exact wk_X9_winter_137 h h_s h_images h_tape h_draft h_items h_moved h_sizes h_lanes h_less h_aside h_order kept typed atv sv p1 p2 p3  Q K67 (fun a0_ a1_ a2_ a3_ a4_ a5_ a6_ => wp_X9_winter_106 sv p1 p2 p3 Q K67 n a0_ a1_ a2_ a3_ a4_ a5_ a6_) C hK67 ih x4 x5 x6 x8 x9 x10 ((10 : Int32) - p2) x7 H locs hP hD hS ls (lv_sub hl [0, 1, 2, 3, 4, 5, 6, 8, 9, 10] rfl) hw
def wp_X9_winter_67 (sv : Nat → Int32) (p1 : Int32) (p2 : Int32) (p3 : Int32) (Q : Int32 → Prop)  : Nat → Int32 → Int32 → Int32 → Prop
  | 0, _, _, _ => False
  | n + 1, x4, x5, x6 =>
    (((((1 : Int32) <<< ((sv 1) &&& 31)) ≤ x6) → (∃ j_ : Nat, wp_X9_winter_236 sv p1 p2 p3 Q  j_ x4 x5 x4 x5)) ∧ (¬ (((1 : Int32) <<< ((sv 1) &&& 31)) ≤ x6) → wp_X9_ones  x6 (fun r_2 => (((r_2 < p1) → (∃ j_ : Nat, wp_X9_winter_106 sv p1 p2 p3 Q (fun a0_ a1_ a2_ => wp_X9_winter_67 sv p1 p2 p3 Q  n a0_ a1_ a2_) j_ x4 x5 x6 (1 : Int32) (-4 : Int32) (0 : Int32) (0 : Int32))) ∧ (¬ (r_2 < p1) → (∃ j_ : Nat, wp_X9_winter_106 sv p1 p2 p3 Q (fun a0_ a1_ a2_ => wp_X9_winter_67 sv p1 p2 p3 Q  n a0_ a1_ a2_) j_ x4 x5 x6 (1 : Int32) (-4 : Int32) (1 : Int32) (0 : Int32)))))))
set_option maxHeartbeats 4000000 in
theorem wk_X9_winter_67 {p : Program} {l : Launch} {e : Env} {s : State} {m : MethodId} {below : List Frame} {meth : Method} {c : Code} {args : Array Value} {G : GT} {A : Nat → Prop} (h h_s h_images h_tape h_draft h_items h_moved h_sizes h_lanes h_less h_aside h_order : Nat) (kept : Int32) (typed : Int32) (atv : Int32) (sv : Nat → Int32) (p1 : Int32) (p2 : Int32) (p3 : Int32) (Q : Int32 → Prop)  (C : Cx p s m meth c cX9_winter 11 (some .int) RX9 args G A)  :
    ∀ (n : Nat), ∀  (x4 : Int32) (x5 : Int32) (x6 : Int32) (H : Heap) (locs : List Loc), va_P G.1 gCl [oc h 9 [.ref h_s, .ref h_images, .int kept, .ref h_tape, .int typed, .ref h_draft, .int atv, .ref h_items, .ref h_moved, .ref h_sizes, .ref h_lanes, .ref h_less, .ref h_aside, .ref h_order], ai G h_s 161 sv] H → va_D A [oc h 9 [.ref h_s, .ref h_images, .int kept, .ref h_tape, .int typed, .ref h_draft, .int atv, .ref h_items, .ref h_moved, .ref h_sizes, .ref h_lanes, .ref h_less, .ref h_aside, .ref h_order], ai G h_s 161 sv] → va_S A s.heap H locs → ∀ (ls : Array Slot), lv_has ls 11 [(0, .ref h), (1, .int p1), (2, .int p2), (3, .int p3), (4, .int x4), (5, .int x5), (6, .int x6)] → wp_X9_winter_67 sv p1 p2 p3 Q  n x4 x5 x6 → W p l e ({ frames := 1, cells := 0, slots := 0, locals := 29 } : Room) s m args below meth c H locs 0 0 (MQ below (va_Qi (fun (r : Int32) (u : Unit) => Q r ) (fun u t => va_P G.1 gCl [oc h 9 [.ref h_s, .ref h_images, .int kept, .ref h_tape, .int typed, .ref h_draft, .int atv, .ref h_items, .ref h_moved, .ref h_sizes, .ref h_lanes, .ref h_less, .ref h_aside, .ref h_order], ai G h_s 161 sv] t.heap ∧ va_D A [oc h 9 [.ref h_s, .ref h_images, .int kept, .ref h_tape, .int typed, .ref h_draft, .int atv, .ref h_items, .ref h_moved, .ref h_sizes, .ref h_lanes, .ref h_less, .ref h_aside, .ref h_order], ai G h_s 161 sv]) A) args s 0 0 A) (F0 m 67 ls []) := by
  have C9 := C
  obtain ⟨hx, hb, hr, hlocks, hml, hown, hts, hK, hA⟩ := C9
  intro n
  induction n with
  | zero => intro x4 x5 x6 H locs hP hD hS ls hl hw; exact False.elim hw
  | succ n ih =>
    intro x4 x5 x6 H locs hP hD hS ls hl hw
    unfold wp_X9_winter_67 at hw
    refine lv_iload hx hb dX9_winter_67 (lv_at hl 6 rfl) ?_
    refine lv_iconst (v := (1 : Int32)) hx hb dX9_winter_69 (by decide) ?_
    refine lv_aload_n hx hb dX9_winter_70 rfl (lv_at hl 0 rfl) ?_
    refine va_get (D := G.1) (ci := 9) (v := .ref h_s) (C := RX9) (T := TX9) (N := 14) hx hb hts in_X9 hown hK.1 hP 0 rfl rfl 0 (by decide) (hts _ q817) (fun _ h9 => h9) rfl dX9_winter_71 ?_
    refine lv_iconst (v := (1 : Int32)) hx hb dX9_winter_74 (by decide) ?_
    refine z_iald hx hb hK.1 hP 1 0 rfl rfl (vin_l (by decide +kernel)) dX9_winter_75 (k := 1) rfl ?_
    refine lv_ishl hx hb dX9_winter_76 ?_
    refine lv_icmp_ge (tgt := 228) hx hb dX9_winter_77 (by decide) (fun c_1 => ?_) (fun c_1 => ?_)
    · replace hw := hw.1 c_1
      refine lv_iload hx hb dX9_winter_228 (lv_at hl 4 rfl) ?_
      refine lv_istore (lv' := [(6, .int x4), (0, .ref h), (1, .int p1), (2, .int p2), (3, .int p3), (4, .int x4), (5, .int x5)]) hx hb dX9_winter_230 hl (by decide) rfl (fun ls hl => ?_)
      refine lv_iload hx hb dX9_winter_232 (lv_at hl 6 rfl) ?_
      refine lv_istore (lv' := [(7, .int x5), (6, .int x4), (0, .ref h), (1, .int p1), (2, .int p2), (3, .int p3), (4, .int x4), (5, .int x5)]) hx hb dX9_winter_234 hl (by decide) rfl (fun ls hl => ?_)
      obtain ⟨j_, hw⟩ := hw
      exact wk_X9_winter_236 h h_s h_images h_tape h_draft h_items h_moved h_sizes h_lanes h_less h_aside h_order kept typed atv sv p1 p2 p3  Q  C  j_ x4 x5 x4 x5 H locs hP hD hS ls (lv_sub hl [5, 6, 7, 1, 0] rfl) hw
    · replace hw := hw.2 c_1
      refine lv_iconst (v := (1 : Int32)) hx hb dX9_winter_80 (by decide) ?_
      refine lv_istore (lv' := [(7, .int (1 : Int32)), (0, .ref h), (1, .int p1), (2, .int p2), (3, .int p3), (4, .int x4), (5, .int x5), (6, .int x6)]) hx hb dX9_winter_81 hl (by decide) rfl (fun ls hl => ?_)
      refine lv_bipush (v := (-4 : Int32)) hx hb dX9_winter_83 (by decide) ?_
      refine lv_istore (lv' := [(8, .int (-4 : Int32)), (7, .int (1 : Int32)), (0, .ref h), (1, .int p1), (2, .int p2), (3, .int p3), (4, .int x4), (5, .int x5), (6, .int x6)]) hx hb dX9_winter_85 hl (by decide) rfl (fun ls hl => ?_)
      refine lv_iload hx hb dX9_winter_87 (lv_at hl 8 rfl) ?_
      have hPc := hP.sub (ws' := []) [] rfl
      have hDc := hD.sub (ws' := []) [] (by decide) rfl
      have hFc := va_free (wc := []) hD hS hA [] rfl
      refine va_calli (va_runS (As := [.int x6]) (rest := []) ⟨hx, hb, hml, hown, hts⟩ (mt_X9_ones l G  H.size  x6 _ hw) (va_cwS 1 hts (lw_S q907 q908 q65 q909) rfl rfl rfl (by decide +kernel) ⟨Nat.le_of_ble_eq_true rfl, Nat.le_of_ble_eq_true rfl⟩) ⟨fun a U g mk q => by obtain ⟨q0, q1, qP, qK, qD⟩ := q; exact ⟨q0, q1, qP, qK.call, qD⟩, fun U hU hW => ⟨rfl, by rw [hU], by rw [hU]; exact hPc, hK.warm hW, hDc.weaken (fun _ _ _ _ => trivial)⟩⟩ rfl rfl hl.1 rfl (lv_room (Nat.le_of_ble_eq_true rfl)) dX9_winter_89 ⟨Nat.le_of_ble_eq_true rfl, Nat.le_of_ble_eq_true rfl⟩) hS (fun q _ h => hFc q h) hFc (fun r_2 _ t H1 locs ht hvm hw hB hz1 hk1 hS => ?_)
      obtain ⟨hP1, hD1⟩ := hB
      rw [ht] at hP1
      obtain ⟨hP, hD⟩ := va_join (wr := [oc h 9 [.ref h_s, .ref h_images, .int kept, .ref h_tape, .int typed, .ref h_draft, .int atv, .ref h_items, .ref h_moved, .ref h_sizes, .ref h_lanes, .ref h_less, .ref h_aside, .ref h_order], ai G h_s 161 sv]) (w1 := []) hP hD [] [0, 1] rfl rfl (by decide) (by decide) hk1 hFc hP1 hD1
      clear hPc hDc hFc hP1 hD1 hz1 hk1 hvm
      generalize H1 = H at hP hS ⊢
      have hP : va_P G.1 gCl [oc h 9 [.ref h_s, .ref h_images, .int kept, .ref h_tape, .int typed, .ref h_draft, .int atv, .ref h_items, .ref h_moved, .ref h_sizes, .ref h_lanes, .ref h_less, .ref h_aside, .ref h_order], ai G h_s 161 sv] H := hP
      have hD : va_D A [oc h 9 [.ref h_s, .ref h_images, .int kept, .ref h_tape, .int typed, .ref h_draft, .int atv, .ref h_items, .ref h_moved, .ref h_sizes, .ref h_lanes, .ref h_less, .ref h_aside, .ref h_order], ai G h_s 161 sv] := hD
      refine lv_iload_n hx hb dX9_winter_92 rfl (lv_at hl 3 rfl) ?_
      refine lv_icmp_lt (tgt := 100) hx hb dX9_winter_93 (by decide) (fun c_3 => ?_) (fun c_3 => ?_)
      · replace hw := hw.1 c_3
        refine lv_iconst (v := (0 : Int32)) hx hb dX9_winter_100 (by decide) ?_
        refine lv_istore (lv' := [(9, .int (0 : Int32)), (8, .int (-4 : Int32)), (7, .int (1 : Int32)), (0, .ref h), (1, .int p1), (2, .int p2), (3, .int p3), (4, .int x4), (5, .int x5), (6, .int x6)]) hx hb dX9_winter_101 hl (by decide) rfl (fun ls hl => ?_)
        refine lv_iconst (v := (0 : Int32)) hx hb dX9_winter_103 (by decide) ?_
        refine lv_istore (lv' := [(10, .int (0 : Int32)), (9, .int (0 : Int32)), (8, .int (-4 : Int32)), (7, .int (1 : Int32)), (0, .ref h), (1, .int p1), (2, .int p2), (3, .int p3), (4, .int x4), (5, .int x5), (6, .int x6)]) hx hb dX9_winter_104 hl (by decide) rfl (fun ls hl => ?_)
        obtain ⟨j_, hw⟩ := hw
        exact wk_X9_winter_106 h h_s h_images h_tape h_draft h_items h_moved h_sizes h_lanes h_less h_aside h_order kept typed atv sv p1 p2 p3  Q (fun a0_ a1_ a2_ => wp_X9_winter_67 sv p1 p2 p3 Q  n a0_ a1_ a2_) C ih j_ x4 x5 x6 (1 : Int32) (-4 : Int32) (0 : Int32) (0 : Int32) H locs hP hD hS ls (lv_sub hl [4, 5, 6, 7, 8, 9, 10, 3, 2, 1, 0] rfl) hw
      · replace hw := hw.2 c_3
        refine lv_iconst (v := (1 : Int32)) hx hb dX9_winter_96 (by decide) ?_
        refine lv_goto (tgt := 101) hx hb dX9_winter_97 (by decide) ?_
        refine lv_istore (lv' := [(9, .int (1 : Int32)), (8, .int (-4 : Int32)), (7, .int (1 : Int32)), (0, .ref h), (1, .int p1), (2, .int p2), (3, .int p3), (4, .int x4), (5, .int x5), (6, .int x6)]) hx hb dX9_winter_101 hl (by decide) rfl (fun ls hl => ?_)
        refine lv_iconst (v := (0 : Int32)) hx hb dX9_winter_103 (by decide) ?_
        refine lv_istore (lv' := [(10, .int (0 : Int32)), (9, .int (1 : Int32)), (8, .int (-4 : Int32)), (7, .int (1 : Int32)), (0, .ref h), (1, .int p1), (2, .int p2), (3, .int p3), (4, .int x4), (5, .int x5), (6, .int x6)]) hx hb dX9_winter_104 hl (by decide) rfl (fun ls hl => ?_)
        obtain ⟨j_, hw⟩ := hw
        exact wk_X9_winter_106 h h_s h_images h_tape h_draft h_items h_moved h_sizes h_lanes h_less h_aside h_order kept typed atv sv p1 p2 p3  Q (fun a0_ a1_ a2_ => wp_X9_winter_67 sv p1 p2 p3 Q  n a0_ a1_ a2_) C ih j_ x4 x5 x6 (1 : Int32) (-4 : Int32) (1 : Int32) (0 : Int32) H locs hP hD hS ls (lv_sub hl [4, 5, 6, 7, 8, 9, 10, 3, 2, 1, 0] rfl) hw
def wp_X9_winter_40 (sv : Nat → Int32) (p1 : Int32) (p2 : Int32) (p3 : Int32) (Q : Int32 → Prop)  : Nat → Int32 → Int32 → Int32 → Prop
  | 0, _, _, _ => False
  | n + 1, x4, x5, x6 =>
    ((((sv 1) ≤ x6) → (∃ j_ : Nat, wp_X9_winter_67 sv p1 p2 p3 Q  j_ x4 x5 (0 : Int32))) ∧ (¬ ((sv 1) ≤ x6) → (∀ v_2 : Int32, v_2 = (x5 * (10 : Int32)) → wp_X9_winter_40 sv p1 p2 p3 Q  n x4 v_2 (x6 + (1 : Int32)))))
set_option maxHeartbeats 4000000 in
theorem wk_X9_winter_40 {p : Program} {l : Launch} {e : Env} {s : State} {m : MethodId} {below : List Frame} {meth : Method} {c : Code} {args : Array Value} {G : GT} {A : Nat → Prop} (h h_s h_images h_tape h_draft h_items h_moved h_sizes h_lanes h_less h_aside h_order : Nat) (kept : Int32) (typed : Int32) (atv : Int32) (sv : Nat → Int32) (p1 : Int32) (p2 : Int32) (p3 : Int32) (Q : Int32 → Prop)  (C : Cx p s m meth c cX9_winter 11 (some .int) RX9 args G A)  :
    ∀ (n : Nat), ∀  (x4 : Int32) (x5 : Int32) (x6 : Int32) (H : Heap) (locs : List Loc), va_P G.1 gCl [oc h 9 [.ref h_s, .ref h_images, .int kept, .ref h_tape, .int typed, .ref h_draft, .int atv, .ref h_items, .ref h_moved, .ref h_sizes, .ref h_lanes, .ref h_less, .ref h_aside, .ref h_order], ai G h_s 161 sv] H → va_D A [oc h 9 [.ref h_s, .ref h_images, .int kept, .ref h_tape, .int typed, .ref h_draft, .int atv, .ref h_items, .ref h_moved, .ref h_sizes, .ref h_lanes, .ref h_less, .ref h_aside, .ref h_order], ai G h_s 161 sv] → va_S A s.heap H locs → ∀ (ls : Array Slot), lv_has ls 11 [(0, .ref h), (1, .int p1), (2, .int p2), (3, .int p3), (4, .int x4), (5, .int x5), (6, .int x6)] → wp_X9_winter_40 sv p1 p2 p3 Q  n x4 x5 x6 → W p l e ({ frames := 1, cells := 0, slots := 0, locals := 29 } : Room) s m args below meth c H locs 0 0 (MQ below (va_Qi (fun (r : Int32) (u : Unit) => Q r ) (fun u t => va_P G.1 gCl [oc h 9 [.ref h_s, .ref h_images, .int kept, .ref h_tape, .int typed, .ref h_draft, .int atv, .ref h_items, .ref h_moved, .ref h_sizes, .ref h_lanes, .ref h_less, .ref h_aside, .ref h_order], ai G h_s 161 sv] t.heap ∧ va_D A [oc h 9 [.ref h_s, .ref h_images, .int kept, .ref h_tape, .int typed, .ref h_draft, .int atv, .ref h_items, .ref h_moved, .ref h_sizes, .ref h_lanes, .ref h_less, .ref h_aside, .ref h_order], ai G h_s 161 sv]) A) args s 0 0 A) (F0 m 40 ls []) := by
  have C9 := C
  obtain ⟨hx, hb, hr, hlocks, hml, hown, hts, hK, hA⟩ := C9
  intro n
  induction n with
  | zero => intro x4 x5 x6 H locs hP hD hS ls hl hw; exact False.elim hw
  | succ n ih =>
    intro x4 x5 x6 H locs hP hD hS ls hl hw
    unfold wp_X9_winter_40 at hw
    refine lv_iload hx hb dX9_winter_40 (lv_at hl 6 rfl) ?_
    refine lv_aload_n hx hb dX9_winter_42 rfl (lv_at hl 0 rfl) ?_
    refine va_get (D := G.1) (ci := 9) (v := .ref h_s) (C := RX9) (T := TX9) (N := 14) hx hb hts in_X9 hown hK.1 hP 0 rfl rfl 0 (by decide) (hts _ q817) (fun _ h9 => h9) rfl dX9_winter_43 ?_
    refine lv_iconst (v := (1 : Int32)) hx hb dX9_winter_46 (by decide) ?_
    refine z_iald hx hb hK.1 hP 1 0 rfl rfl (vin_l (by decide +kernel)) dX9_winter_47 (k := 1) rfl ?_
    refine lv_icmp_ge (tgt := 64) hx hb dX9_winter_48 (by decide) (fun c_1 => ?_) (fun c_1 => ?_)
    · replace hw := hw.1 c_1
      refine lv_iconst (v := (0 : Int32)) hx hb dX9_winter_64 (by decide) ?_
      refine lv_istore (lv' := [(6, .int (0 : Int32)), (0, .ref h), (1, .int p1), (2, .int p2), (3, .int p3), (4, .int x4), (5, .int x5)]) hx hb dX9_winter_65 hl (by decide) rfl (fun ls hl => ?_)
      obtain ⟨j_, hw⟩ := hw
      exact wk_X9_winter_67 h h_s h_images h_tape h_draft h_items h_moved h_sizes h_lanes h_less h_aside h_order kept typed atv sv p1 p2 p3  Q  C  j_ x4 x5 (0 : Int32) H locs hP hD hS ls (lv_sub hl [1, 2, 3, 4, 5, 6, 0] rfl) hw
    · replace hw := hw.2 c_1
      refine lv_iload hx hb dX9_winter_51 (lv_at hl 5 rfl) ?_
      refine lv_bipush (v := (10 : Int32)) hx hb dX9_winter_53 (by decide) ?_
      refine lv_imul hx hb dX9_winter_55 ?_
      refine lv_topi (fun v_2 ev_2 => ?_)
      replace hw := hw v_2 ev_2
      refine lv_istore (lv' := [(5, .int v_2), (0, .ref h), (1, .int p1), (2, .int p2), (3, .int p3), (4, .int x4), (6, .int x6)]) hx hb dX9_winter_56 hl (by decide) rfl (fun ls hl => ?_)
      refine lv_iinc (v := (x6 + (1 : Int32))) (lv' := [(6, .int (x6 + (1 : Int32))), (5, .int v_2), (0, .ref h), (1, .int p1), (2, .int p2), (3, .int p3), (4, .int x4)]) hx hb dX9_winter_58 hl (k := 6) rfl rfl (by decide) rfl (fun ls hl => ?_)
      refine lv_goto (tgt := 40) hx hb dX9_winter_61 (by decide) ?_
      exact ih x4 v_2 (x6 + (1 : Int32)) H locs hP hD hS ls (lv_sub hl [2, 3, 4, 5, 6, 1, 0] rfl) hw
def wp_X9_winter (sv : Nat → Int32) (p1 : Int32) (p2 : Int32) (p3 : Int32) (Q : Int32 → Prop) : Prop :=
  wp_X9_in  p1 (0 : Int32) (6 : Int32) (fun r_1 => (((r_1 = 0) → Q (-1 : Int32)) ∧ (¬ (r_1 = 0) → wp_X9_in  p2 (0 : Int32) (10 : Int32) (fun r_3 => (((r_3 = 0) → Q (-1 : Int32)) ∧ (¬ (r_3 = 0) → wp_X9_in  p3 (0 : Int32) (1 : Int32) (fun r_5 => ((¬ (r_5 = 0) → (∃ j_ : Nat, wp_X9_winter_40 sv p1 p2 p3 Q  j_ (0 : Int32) (1 : Int32) (0 : Int32))) ∧ ((r_5 = 0) → Q (-1 : Int32))))))))))
set_option maxHeartbeats 4000000 in
theorem mt_X9_winter (l : Launch) (G : GT) (h h_s h_images h_tape h_draft h_items h_moved h_sizes h_lanes h_less h_aside h_order : Nat) (sz : Nat) (kept : Int32) (typed : Int32) (atv : Int32) (sv : Nat → Int32) (p1 : Int32) (p2 : Int32) (p3 : Int32) (Q : Int32 → Prop) (hw : wp_X9_winter sv p1 p2 p3 Q) : Met l yX9_winter (ws_ yX9_winter cX9_winter 11 (some .int)) ({ frames := 1, cells := 0, slots := 0, locals := 29 } : Room) (va_Pc [.ref h, .int p1, .int p2, .int p3] (fun U => U.heap.size = sz ∧ va_P G.1 gCl [oc h 9 [.ref h_s, .ref h_images, .int kept, .ref h_tape, .int typed, .ref h_draft, .int atv, .ref h_items, .ref h_moved, .ref h_sizes, .ref h_lanes, .ref h_less, .ref h_aside, .ref h_order], ai G h_s 161 sv] U.heap ∧ gK G U ∧ va_D (fun _ => True) [oc h 9 [.ref h_s, .ref h_images, .int kept, .ref h_tape, .int typed, .ref h_draft, .int atv, .ref h_items, .ref h_moved, .ref h_sizes, .ref h_lanes, .ref h_less, .ref h_aside, .ref h_order], ai G h_s 161 sv])) ((fun A => (va_Qi (fun (r : Int32) (u : Unit) => Q r ) (fun u t => va_P G.1 gCl [oc h 9 [.ref h_s, .ref h_images, .int kept, .ref h_tape, .int typed, .ref h_draft, .int atv, .ref h_items, .ref h_moved, .ref h_sizes, .ref h_lanes, .ref h_less, .ref h_aside, .ref h_order], ai G h_s 161 sv] t.heap ∧ va_D A [oc h 9 [.ref h_s, .ref h_images, .int kept, .ref h_tape, .int typed, .ref h_draft, .int atv, .ref h_items, .ref h_moved, .ref h_sizes, .ref h_lanes, .ref h_less, .ref h_aside, .ref h_order], ai G h_s 161 sv]) A)) (va_A [oc h 9 [.ref h_s, .ref h_images, .int kept, .ref h_tape, .int typed, .ref h_draft, .int atv, .ref h_items, .ref h_moved, .ref h_sizes, .ref h_lanes, .ref h_less, .ref h_aside, .ref h_order], ai G h_s 161 sv] sz)) 0 0 (va_A [oc h 9 [.ref h_s, .ref h_images, .int kept, .ref h_tape, .int typed, .ref h_draft, .int atv, .ref h_items, .ref h_moved, .ref h_sizes, .ref h_lanes, .ref h_less, .ref h_aside, .ref h_order], ai G h_s 161 sv] sz) := by
  refine Met.ofW (cc := cX9_winter) (maxL := 11) (ret := (some .int)) (by decide) rfl ?_
  intro p e s m args below meth c s₁ B hml hv
  obtain ⟨rfl, hsz, hP, hK, hD0⟩ := hv
  have hx := B.exec
  have hb := B.bytes
  have hr := B.returns
  have hts := atoms_spec (ws := (ws_ yX9_winter cX9_winter 11 (some .int))) B.pre
  have hts : ∀ w ∈ lw_all, w.before _ s = true := fun w h => hts w (List.mem_cons_of_mem _ h)
  have hown : s.vm.findClass RX9 = some m.cls := findClass_of_methodNamed B.named
  have hlocks := B.notSynchronized
  subst hsz
  have hD := hD0.self (sz := s.heap.size)
  generalize hAe : va_A [oc h 9 [.ref h_s, .ref h_images, .int kept, .ref h_tape, .int typed, .ref h_draft, .int atv, .ref h_items, .ref h_moved, .ref h_sizes, .ref h_lanes, .ref h_less, .ref h_aside, .ref h_order], ai G h_s 161 sv] s.heap.size = A at hD ⊢
  have hA : ∀ q : Nat, s.heap.size ≤ q → A q := fun q h => by rw [← hAe]; exact Or.inr h
  have hS : va_S A s.heap s.heap [] := va_S.rf
  have C : Cx p s m meth c cX9_winter 11 (some .int) RX9 ([.ref h, .int p1, .int p2, .int p3] : List Value).toArray G A := ⟨hx, hb, hr, hlocks, hml, hown, hts, hK, hA⟩
  have hl := lv_entry ([.ref h, .int p1, .int p2, .int p3]) (n := 11) (Nat.le_of_ble_eq_true rfl)
  rw [lg_entry_eq]
  generalize (lg_sl ([.ref h, .int p1, .int p2, .int p3]) ++ List.replicate (11 - (lg_sl ([.ref h, .int p1, .int p2, .int p3])).length) Slot.unset).toArray = ls at hl ⊢
  have hl : lv_has ls 11 [(0, .ref h), (1, .int p1), (2, .int p2), (3, .int p3)] := hl
  unfold wp_X9_winter at hw
  refine lv_iload_n hx hb dX9_winter_0 rfl (lv_at hl 1 rfl) ?_
  refine lv_iconst (v := (0 : Int32)) hx hb dX9_winter_1 (by decide) ?_
  refine lv_bipush (v := (6 : Int32)) hx hb dX9_winter_2 (by decide) ?_
  have hPc := hP.sub (ws' := []) [] rfl
  have hDc := hD.sub (ws' := []) [] (by decide) rfl
  have hFc := va_free (wc := []) hD hS hA [] rfl
  refine va_calli (va_runS (As := [.int p1, .int (0 : Int32), .int (6 : Int32)]) (rest := []) ⟨hx, hb, hml, hown, hts⟩ (mt_X9_in l G  s.heap.size  p1 (0 : Int32) (6 : Int32) _ hw) (va_cwS 3 hts (lw_S q864 q865 q65 q866) rfl rfl rfl (by decide +kernel) ⟨Nat.le_of_ble_eq_true rfl, Nat.le_of_ble_eq_true rfl⟩) ⟨fun a U g mk q => by obtain ⟨q0, q1, qP, qK, qD⟩ := q; exact ⟨q0, q1, qP, qK.call, qD⟩, fun U hU hW => ⟨rfl, by rw [hU], by rw [hU]; exact hPc, hK.warm hW, hDc.weaken (fun _ _ _ _ => trivial)⟩⟩ rfl rfl hl.1 rfl (lv_room (Nat.le_of_ble_eq_true rfl)) dX9_winter_4 ⟨Nat.le_of_ble_eq_true rfl, Nat.le_of_ble_eq_true rfl⟩) hS (fun q _ h => hFc q h) hFc (fun r_1 _ t H1 locs ht hvm hw hB hz1 hk1 hS => ?_)
  obtain ⟨hP1, hD1⟩ := hB
  rw [ht] at hP1
  obtain ⟨hP, hD⟩ := va_join (wr := [oc h 9 [.ref h_s, .ref h_images, .int kept, .ref h_tape, .int typed, .ref h_draft, .int atv, .ref h_items, .ref h_moved, .ref h_sizes, .ref h_lanes, .ref h_less, .ref h_aside, .ref h_order], ai G h_s 161 sv]) (w1 := []) hP hD [] [0, 1] rfl rfl (by decide) (by decide) hk1 hFc hP1 hD1
  clear hPc hDc hFc hP1 hD1 hz1 hk1 hvm
  generalize H1 = H at hP hS ⊢
  have hP : va_P G.1 gCl [oc h 9 [.ref h_s, .ref h_images, .int kept, .ref h_tape, .int typed, .ref h_draft, .int atv, .ref h_items, .ref h_moved, .ref h_sizes, .ref h_lanes, .ref h_less, .ref h_aside, .ref h_order], ai G h_s 161 sv] H := hP
  have hD : va_D A [oc h 9 [.ref h_s, .ref h_images, .int kept, .ref h_tape, .int typed, .ref h_draft, .int atv, .ref h_items, .ref h_moved, .ref h_sizes, .ref h_lanes, .ref h_less, .ref h_aside, .ref h_order], ai G h_s 161 sv] := hD
  refine lv_if_eq (tgt := 29) hx hb dX9_winter_7 (by decide) (fun c_2 => ?_) (fun c_2 => ?_)
  · replace hw := hw.1 c_2
    refine lv_iconst (v := (-1 : Int32)) hx hb dX9_winter_29 (by decide) ?_
    have hP9 := hP
    have hD9 := hD
    exact W.iret (v := (-1 : Int32)) hx hb hr (fun t ht hW => ⟨⟨(-1 : Int32), (), rfl, hw, by rw [ht]; exact hP9, hD9⟩, hS.F ht⟩) hS.2.2 dX9_winter_30
  · replace hw := hw.2 c_2
    refine lv_iload_n hx hb dX9_winter_10 rfl (lv_at hl 2 rfl) ?_
    refine lv_iconst (v := (0 : Int32)) hx hb dX9_winter_11 (by decide) ?_
    refine lv_bipush (v := (10 : Int32)) hx hb dX9_winter_12 (by decide) ?_
    have hPc := hP.sub (ws' := []) [] rfl
    have hDc := hD.sub (ws' := []) [] (by decide) rfl
    have hFc := va_free (wc := []) hD hS hA [] rfl
    refine va_calli (va_runS (As := [.int p2, .int (0 : Int32), .int (10 : Int32)]) (rest := []) ⟨hx, hb, hml, hown, hts⟩ (mt_X9_in l G  H.size  p2 (0 : Int32) (10 : Int32) _ hw) (va_cwS 3 hts (lw_S q864 q865 q65 q866) rfl rfl rfl (by decide +kernel) ⟨Nat.le_of_ble_eq_true rfl, Nat.le_of_ble_eq_true rfl⟩) ⟨fun a U g mk q => by obtain ⟨q0, q1, qP, qK, qD⟩ := q; exact ⟨q0, q1, qP, qK.call, qD⟩, fun U hU hW => ⟨rfl, by rw [hU], by rw [hU]; exact hPc, hK.warm hW, hDc.weaken (fun _ _ _ _ => trivial)⟩⟩ rfl rfl hl.1 rfl (lv_room (Nat.le_of_ble_eq_true rfl)) dX9_winter_14 ⟨Nat.le_of_ble_eq_true rfl, Nat.le_of_ble_eq_true rfl⟩) hS (fun q _ h => hFc q h) hFc (fun r_3 _ t H1 locs ht hvm hw hB hz1 hk1 hS => ?_)
    obtain ⟨hP1, hD1⟩ := hB
    rw [ht] at hP1
    obtain ⟨hP, hD⟩ := va_join (wr := [oc h 9 [.ref h_s, .ref h_images, .int kept, .ref h_tape, .int typed, .ref h_draft, .int atv, .ref h_items, .ref h_moved, .ref h_sizes, .ref h_lanes, .ref h_less, .ref h_aside, .ref h_order], ai G h_s 161 sv]) (w1 := []) hP hD [] [0, 1] rfl rfl (by decide) (by decide) hk1 hFc hP1 hD1
    clear hPc hDc hFc hP1 hD1 hz1 hk1 hvm
    generalize H1 = H at hP hS ⊢
    have hP : va_P G.1 gCl [oc h 9 [.ref h_s, .ref h_images, .int kept, .ref h_tape, .int typed, .ref h_draft, .int atv, .ref h_items, .ref h_moved, .ref h_sizes, .ref h_lanes, .ref h_less, .ref h_aside, .ref h_order], ai G h_s 161 sv] H := hP
    have hD : va_D A [oc h 9 [.ref h_s, .ref h_images, .int kept, .ref h_tape, .int typed, .ref h_draft, .int atv, .ref h_items, .ref h_moved, .ref h_sizes, .ref h_lanes, .ref h_less, .ref h_aside, .ref h_order], ai G h_s 161 sv] := hD
    refine lv_if_eq (tgt := 29) hx hb dX9_winter_17 (by decide) (fun c_4 => ?_) (fun c_4 => ?_)
    · replace hw := hw.1 c_4
      refine lv_iconst (v := (-1 : Int32)) hx hb dX9_winter_29 (by decide) ?_
      have hP9 := hP
      have hD9 := hD
      exact W.iret (v := (-1 : Int32)) hx hb hr (fun t ht hW => ⟨⟨(-1 : Int32), (), rfl, hw, by rw [ht]; exact hP9, hD9⟩, hS.F ht⟩) hS.2.2 dX9_winter_30
    · replace hw := hw.2 c_4
      refine lv_iload_n hx hb dX9_winter_20 rfl (lv_at hl 3 rfl) ?_
      refine lv_iconst (v := (0 : Int32)) hx hb dX9_winter_21 (by decide) ?_
      refine lv_iconst (v := (1 : Int32)) hx hb dX9_winter_22 (by decide) ?_
      have hPc := hP.sub (ws' := []) [] rfl
      have hDc := hD.sub (ws' := []) [] (by decide) rfl
      have hFc := va_free (wc := []) hD hS hA [] rfl
      refine va_calli (va_runS (As := [.int p3, .int (0 : Int32), .int (1 : Int32)]) (rest := []) ⟨hx, hb, hml, hown, hts⟩ (mt_X9_in l G  H.size  p3 (0 : Int32) (1 : Int32) _ hw) (va_cwS 3 hts (lw_S q864 q865 q65 q866) rfl rfl rfl (by decide +kernel) ⟨Nat.le_of_ble_eq_true rfl, Nat.le_of_ble_eq_true rfl⟩) ⟨fun a U g mk q => by obtain ⟨q0, q1, qP, qK, qD⟩ := q; exact ⟨q0, q1, qP, qK.call, qD⟩, fun U hU hW => ⟨rfl, by rw [hU], by rw [hU]; exact hPc, hK.warm hW, hDc.weaken (fun _ _ _ _ => trivial)⟩⟩ rfl rfl hl.1 rfl (lv_room (Nat.le_of_ble_eq_true rfl)) dX9_winter_23 ⟨Nat.le_of_ble_eq_true rfl, Nat.le_of_ble_eq_true rfl⟩) hS (fun q _ h => hFc q h) hFc (fun r_5 _ t H1 locs ht hvm hw hB hz1 hk1 hS => ?_)
      obtain ⟨hP1, hD1⟩ := hB
      rw [ht] at hP1
      obtain ⟨hP, hD⟩ := va_join (wr := [oc h 9 [.ref h_s, .ref h_images, .int kept, .ref h_tape, .int typed, .ref h_draft, .int atv, .ref h_items, .ref h_moved, .ref h_sizes, .ref h_lanes, .ref h_less, .ref h_aside, .ref h_order], ai G h_s 161 sv]) (w1 := []) hP hD [] [0, 1] rfl rfl (by decide) (by decide) hk1 hFc hP1 hD1
      clear hPc hDc hFc hP1 hD1 hz1 hk1 hvm
      generalize H1 = H at hP hS ⊢
      have hP : va_P G.1 gCl [oc h 9 [.ref h_s, .ref h_images, .int kept, .ref h_tape, .int typed, .ref h_draft, .int atv, .ref h_items, .ref h_moved, .ref h_sizes, .ref h_lanes, .ref h_less, .ref h_aside, .ref h_order], ai G h_s 161 sv] H := hP
      have hD : va_D A [oc h 9 [.ref h_s, .ref h_images, .int kept, .ref h_tape, .int typed, .ref h_draft, .int atv, .ref h_items, .ref h_moved, .ref h_sizes, .ref h_lanes, .ref h_less, .ref h_aside, .ref h_order], ai G h_s 161 sv] := hD
      refine lv_if_ne (tgt := 31) hx hb dX9_winter_26 (by decide) (fun c_6 => ?_) (fun c_6 => ?_)
      · replace hw := hw.1 c_6
        refine lv_iconst (v := (0 : Int32)) hx hb dX9_winter_31 (by decide) ?_
        refine lv_istore (lv' := [(4, .int (0 : Int32)), (0, .ref h), (1, .int p1), (2, .int p2), (3, .int p3)]) hx hb dX9_winter_32 hl (by decide) rfl (fun ls hl => ?_)
        refine lv_iconst (v := (1 : Int32)) hx hb dX9_winter_34 (by decide) ?_
        refine lv_istore (lv' := [(5, .int (1 : Int32)), (4, .int (0 : Int32)), (0, .ref h), (1, .int p1), (2, .int p2), (3, .int p3)]) hx hb dX9_winter_35 hl (by decide) rfl (fun ls hl => ?_)
        refine lv_iconst (v := (0 : Int32)) hx hb dX9_winter_37 (by decide) ?_
        refine lv_istore (lv' := [(6, .int (0 : Int32)), (5, .int (1 : Int32)), (4, .int (0 : Int32)), (0, .ref h), (1, .int p1), (2, .int p2), (3, .int p3)]) hx hb dX9_winter_38 hl (by decide) rfl (fun ls hl => ?_)
        obtain ⟨j_, hw⟩ := hw
        exact wk_X9_winter_40 h h_s h_images h_tape h_draft h_items h_moved h_sizes h_lanes h_less h_aside h_order kept typed atv sv p1 p2 p3  Q  C  j_ (0 : Int32) (1 : Int32) (0 : Int32) H locs hP hD hS ls (lv_sub hl [3, 4, 5, 6, 2, 1, 0] rfl) hw
      · replace hw := hw.2 c_6
        refine lv_iconst (v := (-1 : Int32)) hx hb dX9_winter_29 (by decide) ?_
        have hP9 := hP
        have hD9 := hD
        exact W.iret (v := (-1 : Int32)) hx hb hr (fun t ht hW => ⟨⟨(-1 : Int32), (), rfl, hw, by rw [ht]; exact hP9, hD9⟩, hS.F ht⟩) hS.2.2 dX9_winter_30
/-! BattleBenchModel.image()I -/
def wp_X9_image_2 (sv : Nat → Int32) (Q : Int32 → (Int32 × (Nat → Int32)) → Prop)  : Nat → Int32 → (Nat → Int32) → Int32 → Prop
  | 0, _, _, _ => False
  | n + 1, kept, images, x1 =>
    ((((161 : Int32) ≤ x1) → Q (1 : Int32) ((1 : Int32), images)) ∧ (¬ ((161 : Int32) ≤ x1) → (vp_in x1 161 ∧ (∀ v_3 : Int32, v_3 = (sv x1.toNatClampNeg) → (vp_in x1 161 ∧ ∀ f_5 : Nat → Int32, f_5 = upd images x1.toNatClampNeg v_3 → wp_X9_image_2 sv Q  n kept f_5 (x1 + (1 : Int32)))))))
set_option maxHeartbeats 4000000 in
theorem wk_X9_image_2 {p : Program} {l : Launch} {e : Env} {s : State} {m : MethodId} {below : List Frame} {meth : Method} {c : Code} {args : Array Value} {G : GT} {A : Nat → Prop} (h h_s h_images h_tape h_draft h_items h_moved h_sizes h_lanes h_less h_aside h_order : Nat) (typed : Int32) (atv : Int32) (sv : Nat → Int32) (Q : Int32 → (Int32 × (Nat → Int32)) → Prop)  (C : Cx p s m meth c cX9_image 2 (some .int) RX9 args G A)  :
    ∀ (n : Nat), ∀  (kept : Int32) (images : Nat → Int32) (x1 : Int32) (H : Heap) (locs : List Loc), va_P G.1 gCl [oc h 9 [.ref h_s, .ref h_images, .int kept, .ref h_tape, .int typed, .ref h_draft, .int atv, .ref h_items, .ref h_moved, .ref h_sizes, .ref h_lanes, .ref h_less, .ref h_aside, .ref h_order], ai G h_s 161 sv, ai G h_images 161 images] H → va_D A [oc h 9 [.ref h_s, .ref h_images, .int kept, .ref h_tape, .int typed, .ref h_draft, .int atv, .ref h_items, .ref h_moved, .ref h_sizes, .ref h_lanes, .ref h_less, .ref h_aside, .ref h_order], ai G h_s 161 sv, ai G h_images 161 images] → va_S A s.heap H locs → ∀ (ls : Array Slot), lv_has ls 2 [(0, .ref h), (1, .int x1)] → wp_X9_image_2 sv Q  n kept images x1 → W p l e ({ frames := 0, cells := 0, slots := 0, locals := 0 } : Room) s m args below meth c H locs 0 0 (MQ below (va_Qi (fun (r : Int32) (u : Int32 × (Nat → Int32)) => Q r u) (fun u t => va_P G.1 gCl [oc h 9 [.ref h_s, .ref h_images, .int u.1, .ref h_tape, .int typed, .ref h_draft, .int atv, .ref h_items, .ref h_moved, .ref h_sizes, .ref h_lanes, .ref h_less, .ref h_aside, .ref h_order], ai G h_s 161 sv, ai G h_images 161 u.2] t.heap ∧ va_D A [oc h 9 [.ref h_s, .ref h_images, .int u.1, .ref h_tape, .int typed, .ref h_draft, .int atv, .ref h_items, .ref h_moved, .ref h_sizes, .ref h_lanes, .ref h_less, .ref h_aside, .ref h_order], ai G h_s 161 sv, ai G h_images 161 u.2]) A) args s 0 0 A) (F0 m 2 ls []) := by
  have C9 := C
  obtain ⟨hx, hb, hr, hlocks, hml, hown, hts, hK, hA⟩ := C9
  intro n
  induction n with
  | zero => intro kept images x1 H locs hP hD hS ls hl hw; exact False.elim hw
  | succ n ih =>
    intro kept images x1 H locs hP hD hS ls hl hw
    unfold wp_X9_image_2 at hw
    refine lv_iload_n hx hb dX9_image_2 rfl (lv_at hl 1 rfl) ?_
    refine lv_sipush (v := (161 : Int32)) hx hb dX9_image_3 (by decide) ?_
    refine lv_icmp_ge (tgt := 27) hx hb dX9_image_6 (by decide) (fun c_1 => ?_) (fun c_1 => ?_)
    · replace hw := hw.1 c_1
      refine lv_aload_n hx hb dX9_image_27 rfl (lv_at hl 0 rfl) ?_
      refine lv_iconst (v := (1 : Int32)) hx hb dX9_image_28 (by decide) ?_
      refine va_put (D := G.1) (ci := 9) (v := .int (1 : Int32)) (ty := .boolean) (C := RX9) (T := TX9) (N := 14) hx hb hts in_X9 tyX9 tyX9_ok nmX9 hown hK.1 hP hD hS 0 rfl rfl 2 (by decide) (hts _ q819) (fun _ h9 => h9) rfl (by decide +kernel) rfl rfl (Nat.le_of_ble_eq_true rfl) dX9_image_29 (fun H locs hP hD hS => ?_)
      have hP : va_P G.1 gCl [oc h 9 [.ref h_s, .ref h_images, .int (1 : Int32), .ref h_tape, .int typed, .ref h_draft, .int atv, .ref h_items, .ref h_moved, .ref h_sizes, .ref h_lanes, .ref h_less, .ref h_aside, .ref h_order], ai G h_s 161 sv, ai G h_images 161 images] H := hP
      have hD : va_D A [oc h 9 [.ref h_s, .ref h_images, .int (1 : Int32), .ref h_tape, .int typed, .ref h_draft, .int atv, .ref h_items, .ref h_moved, .ref h_sizes, .ref h_lanes, .ref h_less, .ref h_aside, .ref h_order], ai G h_s 161 sv, ai G h_images 161 images] := hD
      refine lv_iconst (v := (1 : Int32)) hx hb dX9_image_32 (by decide) ?_
      have hP9 := hP
      have hD9 := hD
      exact W.iret (v := (1 : Int32)) hx hb hr (fun t ht hW => ⟨⟨(1 : Int32), ((1 : Int32), images), rfl, hw, by rw [ht]; exact hP9, hD9⟩, hS.F ht⟩) hS.2.2 dX9_image_33
    · replace hw := hw.2 c_1
      refine lv_aload_n hx hb dX9_image_9 rfl (lv_at hl 0 rfl) ?_
      refine va_get (D := G.1) (ci := 9) (v := .ref h_images) (C := RX9) (T := TX9) (N := 14) hx hb hts in_X9 hown hK.1 hP 0 rfl rfl 1 (by decide) (hts _ q818) (fun _ h9 => h9) rfl dX9_image_10 ?_
      refine lv_iload_n hx hb dX9_image_13 rfl (lv_at hl 1 rfl) ?_
      refine lv_aload_n hx hb dX9_image_14 rfl (lv_at hl 0 rfl) ?_
      refine va_get (D := G.1) (ci := 9) (v := .ref h_s) (C := RX9) (T := TX9) (N := 14) hx hb hts in_X9 hown hK.1 hP 0 rfl rfl 0 (by decide) (hts _ q817) (fun _ h9 => h9) rfl dX9_image_15 ?_
      refine lv_iload_n hx hb dX9_image_18 rfl (lv_at hl 1 rfl) ?_
      obtain ⟨i_2, hw⟩ := hw
      refine z_iald hx hb hK.1 hP 1 0 rfl rfl i_2 dX9_image_19 (k := x1.toNatClampNeg) rfl ?_
      refine lv_topi (fun v_3 ev_3 => ?_)
      replace hw := hw v_3 ev_3
      obtain ⟨i_4, hw⟩ := hw
      refine z_iast hx hb hK.1 hP hD hS 2 0 rfl rfl i_4 dX9_image_20 (k := x1.toNatClampNeg) rfl (fun f_5 ef_5 H locs hP hD hS => ?_)
      replace hw := hw f_5 ef_5
      have hP : va_P G.1 gCl [oc h 9 [.ref h_s, .ref h_images, .int kept, .ref h_tape, .int typed, .ref h_draft, .int atv, .ref h_items, .ref h_moved, .ref h_sizes, .ref h_lanes, .ref h_less, .ref h_aside, .ref h_order], ai G h_s 161 sv, ai G h_images 161 f_5] H := hP
      have hD : va_D A [oc h 9 [.ref h_s, .ref h_images, .int kept, .ref h_tape, .int typed, .ref h_draft, .int atv, .ref h_items, .ref h_moved, .ref h_sizes, .ref h_lanes, .ref h_less, .ref h_aside, .ref h_order], ai G h_s 161 sv, ai G h_images 161 f_5] := hD
      refine lv_iinc (v := (x1 + (1 : Int32))) (lv' := [(1, .int (x1 + (1 : Int32))), (0, .ref h)]) hx hb dX9_image_21 hl (k := 1) rfl rfl (by decide) rfl (fun ls hl => ?_)
      refine lv_goto (tgt := 2) hx hb dX9_image_24 (by decide) ?_
      exact ih kept f_5 (x1 + (1 : Int32)) H locs hP hD hS ls (lv_sub hl [1, 0] rfl) hw
def wp_X9_image (kept : Int32) (sv : Nat → Int32) (images : Nat → Int32) (Q : Int32 → (Int32 × (Nat → Int32)) → Prop) : Prop :=
  (∃ j_ : Nat, wp_X9_image_2 sv Q  j_ kept images (0 : Int32))
set_option maxHeartbeats 4000000 in
theorem mt_X9_image (l : Launch) (G : GT) (h h_s h_images h_tape h_draft h_items h_moved h_sizes h_lanes h_less h_aside h_order : Nat) (sz : Nat) (kept : Int32) (typed : Int32) (atv : Int32) (sv : Nat → Int32) (images : Nat → Int32) (Q : Int32 → (Int32 × (Nat → Int32)) → Prop) (hw : wp_X9_image kept sv images Q) : Met l yX9_image (ws_ yX9_image cX9_image 2 (some .int)) ({ frames := 0, cells := 0, slots := 0, locals := 0 } : Room) (va_Pc [.ref h] (fun U => U.heap.size = sz ∧ va_P G.1 gCl [oc h 9 [.ref h_s, .ref h_images, .int kept, .ref h_tape, .int typed, .ref h_draft, .int atv, .ref h_items, .ref h_moved, .ref h_sizes, .ref h_lanes, .ref h_less, .ref h_aside, .ref h_order], ai G h_s 161 sv, ai G h_images 161 images] U.heap ∧ gK G U ∧ va_D (fun _ => True) [oc h 9 [.ref h_s, .ref h_images, .int kept, .ref h_tape, .int typed, .ref h_draft, .int atv, .ref h_items, .ref h_moved, .ref h_sizes, .ref h_lanes, .ref h_less, .ref h_aside, .ref h_order], ai G h_s 161 sv, ai G h_images 161 images])) ((fun A => (va_Qi (fun (r : Int32) (u : Int32 × (Nat → Int32)) => Q r u) (fun u t => va_P G.1 gCl [oc h 9 [.ref h_s, .ref h_images, .int u.1, .ref h_tape, .int typed, .ref h_draft, .int atv, .ref h_items, .ref h_moved, .ref h_sizes, .ref h_lanes, .ref h_less, .ref h_aside, .ref h_order], ai G h_s 161 sv, ai G h_images 161 u.2] t.heap ∧ va_D A [oc h 9 [.ref h_s, .ref h_images, .int u.1, .ref h_tape, .int typed, .ref h_draft, .int atv, .ref h_items, .ref h_moved, .ref h_sizes, .ref h_lanes, .ref h_less, .ref h_aside, .ref h_order], ai G h_s 161 sv, ai G h_images 161 u.2]) A)) (va_A [oc h 9 [.ref h_s, .ref h_images, .int kept, .ref h_tape, .int typed, .ref h_draft, .int atv, .ref h_items, .ref h_moved, .ref h_sizes, .ref h_lanes, .ref h_less, .ref h_aside, .ref h_order], ai G h_s 161 sv, ai G h_images 161 images] sz)) 0 0 (va_A [oc h 9 [.ref h_s, .ref h_images, .int kept, .ref h_tape, .int typed, .ref h_draft, .int atv, .ref h_items, .ref h_moved, .ref h_sizes, .ref h_lanes, .ref h_less, .ref h_aside, .ref h_order], ai G h_s 161 sv, ai G h_images 161 images] sz) := by
  refine Met.ofW (cc := cX9_image) (maxL := 2) (ret := (some .int)) (by decide) rfl ?_
  intro p e s m args below meth c s₁ B hml hv
  obtain ⟨rfl, hsz, hP, hK, hD0⟩ := hv
  have hx := B.exec
  have hb := B.bytes
  have hr := B.returns
  have hts := atoms_spec (ws := (ws_ yX9_image cX9_image 2 (some .int))) B.pre
  have hts : ∀ w ∈ lw_all, w.before _ s = true := fun w h => hts w (List.mem_cons_of_mem _ h)
  have hown : s.vm.findClass RX9 = some m.cls := findClass_of_methodNamed B.named
  have hlocks := B.notSynchronized
  subst hsz
  have hD := hD0.self (sz := s.heap.size)
  generalize hAe : va_A [oc h 9 [.ref h_s, .ref h_images, .int kept, .ref h_tape, .int typed, .ref h_draft, .int atv, .ref h_items, .ref h_moved, .ref h_sizes, .ref h_lanes, .ref h_less, .ref h_aside, .ref h_order], ai G h_s 161 sv, ai G h_images 161 images] s.heap.size = A at hD ⊢
  have hA : ∀ q : Nat, s.heap.size ≤ q → A q := fun q h => by rw [← hAe]; exact Or.inr h
  have hS : va_S A s.heap s.heap [] := va_S.rf
  have C : Cx p s m meth c cX9_image 2 (some .int) RX9 ([.ref h] : List Value).toArray G A := ⟨hx, hb, hr, hlocks, hml, hown, hts, hK, hA⟩
  have hl := lv_entry ([.ref h]) (n := 2) (Nat.le_of_ble_eq_true rfl)
  rw [lg_entry_eq]
  generalize (lg_sl ([.ref h]) ++ List.replicate (2 - (lg_sl ([.ref h])).length) Slot.unset).toArray = ls at hl ⊢
  have hl : lv_has ls 2 [(0, .ref h)] := hl
  unfold wp_X9_image at hw
  refine lv_iconst (v := (0 : Int32)) hx hb dX9_image_0 (by decide) ?_
  refine lv_istore_n (lv' := [(1, .int (0 : Int32)), (0, .ref h)]) hx hb dX9_image_1 rfl hl (by decide) rfl (fun ls hl => ?_)
  obtain ⟨j_, hw⟩ := hw
  exact wk_X9_image_2 h h_s h_images h_tape h_draft h_items h_moved h_sizes h_lanes h_less h_aside h_order typed atv sv  Q  C  j_ kept images (0 : Int32) s.heap [] hP hD hS ls (lv_sub hl [1, 0] rfl) hw
/-! BattleBenchModel.restore()I -/
def wp_X9_restore_12 (kept : Int32) (images : Nat → Int32) (Q : Int32 → ((Nat → Int32)) → Prop)  : Nat → (Nat → Int32) → Int32 → Prop
  | 0, _, _ => False
  | n + 1, sv, x1 =>
    ((((161 : Int32) ≤ x1) → Q (1 : Int32) sv) ∧ (¬ ((161 : Int32) ≤ x1) → (vp_in x1 161 ∧ (∀ v_3 : Int32, v_3 = (images x1.toNatClampNeg) → (vp_in x1 161 ∧ ∀ f_5 : Nat → Int32, f_5 = upd sv x1.toNatClampNeg v_3 → wp_X9_restore_12 kept images Q  n f_5 (x1 + (1 : Int32)))))))
set_option maxHeartbeats 4000000 in
theorem wk_X9_restore_12 {p : Program} {l : Launch} {e : Env} {s : State} {m : MethodId} {below : List Frame} {meth : Method} {c : Code} {args : Array Value} {G : GT} {A : Nat → Prop} (h h_s h_images h_tape h_draft h_items h_moved h_sizes h_lanes h_less h_aside h_order : Nat) (kept : Int32) (typed : Int32) (atv : Int32) (images : Nat → Int32) (Q : Int32 → ((Nat → Int32)) → Prop)  (C : Cx p s m meth c cX9_restore 2 (some .int) RX9 args G A)  :
    ∀ (n : Nat), ∀  (sv : Nat → Int32) (x1 : Int32) (H : Heap) (locs : List Loc), va_P G.1 gCl [oc h 9 [.ref h_s, .ref h_images, .int kept, .ref h_tape, .int typed, .ref h_draft, .int atv, .ref h_items, .ref h_moved, .ref h_sizes, .ref h_lanes, .ref h_less, .ref h_aside, .ref h_order], ai G h_s 161 sv, ai G h_images 161 images] H → va_D A [oc h 9 [.ref h_s, .ref h_images, .int kept, .ref h_tape, .int typed, .ref h_draft, .int atv, .ref h_items, .ref h_moved, .ref h_sizes, .ref h_lanes, .ref h_less, .ref h_aside, .ref h_order], ai G h_s 161 sv, ai G h_images 161 images] → va_S A s.heap H locs → ∀ (ls : Array Slot), lv_has ls 2 [(0, .ref h), (1, .int x1)] → wp_X9_restore_12 kept images Q  n sv x1 → W p l e ({ frames := 0, cells := 0, slots := 0, locals := 0 } : Room) s m args below meth c H locs 0 0 (MQ below (va_Qi (fun (r : Int32) (u : (Nat → Int32)) => Q r u) (fun u t => va_P G.1 gCl [oc h 9 [.ref h_s, .ref h_images, .int kept, .ref h_tape, .int typed, .ref h_draft, .int atv, .ref h_items, .ref h_moved, .ref h_sizes, .ref h_lanes, .ref h_less, .ref h_aside, .ref h_order], ai G h_s 161 u, ai G h_images 161 images] t.heap ∧ va_D A [oc h 9 [.ref h_s, .ref h_images, .int kept, .ref h_tape, .int typed, .ref h_draft, .int atv, .ref h_items, .ref h_moved, .ref h_sizes, .ref h_lanes, .ref h_less, .ref h_aside, .ref h_order], ai G h_s 161 u, ai G h_images 161 images]) A) args s 0 0 A) (F0 m 12 ls []) := by
  have C9 := C
  obtain ⟨hx, hb, hr, hlocks, hml, hown, hts, hK, hA⟩ := C9
  intro n
  induction n with
  | zero => intro sv x1 H locs hP hD hS ls hl hw; exact False.elim hw
  | succ n ih =>
    intro sv x1 H locs hP hD hS ls hl hw
    unfold wp_X9_restore_12 at hw
    refine lv_iload_n hx hb dX9_restore_12 rfl (lv_at hl 1 rfl) ?_
    refine lv_sipush (v := (161 : Int32)) hx hb dX9_restore_13 (by decide) ?_
    refine lv_icmp_ge (tgt := 37) hx hb dX9_restore_16 (by decide) (fun c_1 => ?_) (fun c_1 => ?_)
    · replace hw := hw.1 c_1
      refine lv_iconst (v := (1 : Int32)) hx hb dX9_restore_37 (by decide) ?_
      have hP9 := hP
      have hD9 := hD
      exact W.iret (v := (1 : Int32)) hx hb hr (fun t ht hW => ⟨⟨(1 : Int32), sv, rfl, hw, by rw [ht]; exact hP9, hD9⟩, hS.F ht⟩) hS.2.2 dX9_restore_38
    · replace hw := hw.2 c_1
      refine lv_aload_n hx hb dX9_restore_19 rfl (lv_at hl 0 rfl) ?_
      refine va_get (D := G.1) (ci := 9) (v := .ref h_s) (C := RX9) (T := TX9) (N := 14) hx hb hts in_X9 hown hK.1 hP 0 rfl rfl 0 (by decide) (hts _ q817) (fun _ h9 => h9) rfl dX9_restore_20 ?_
      refine lv_iload_n hx hb dX9_restore_23 rfl (lv_at hl 1 rfl) ?_
      refine lv_aload_n hx hb dX9_restore_24 rfl (lv_at hl 0 rfl) ?_
      refine va_get (D := G.1) (ci := 9) (v := .ref h_images) (C := RX9) (T := TX9) (N := 14) hx hb hts in_X9 hown hK.1 hP 0 rfl rfl 1 (by decide) (hts _ q818) (fun _ h9 => h9) rfl dX9_restore_25 ?_
      refine lv_iload_n hx hb dX9_restore_28 rfl (lv_at hl 1 rfl) ?_
      obtain ⟨i_2, hw⟩ := hw
      refine z_iald hx hb hK.1 hP 2 0 rfl rfl i_2 dX9_restore_29 (k := x1.toNatClampNeg) rfl ?_
      refine lv_topi (fun v_3 ev_3 => ?_)
      replace hw := hw v_3 ev_3
      obtain ⟨i_4, hw⟩ := hw
      refine z_iast hx hb hK.1 hP hD hS 1 0 rfl rfl i_4 dX9_restore_30 (k := x1.toNatClampNeg) rfl (fun f_5 ef_5 H locs hP hD hS => ?_)
      replace hw := hw f_5 ef_5
      have hP : va_P G.1 gCl [oc h 9 [.ref h_s, .ref h_images, .int kept, .ref h_tape, .int typed, .ref h_draft, .int atv, .ref h_items, .ref h_moved, .ref h_sizes, .ref h_lanes, .ref h_less, .ref h_aside, .ref h_order], ai G h_s 161 f_5, ai G h_images 161 images] H := hP
      have hD : va_D A [oc h 9 [.ref h_s, .ref h_images, .int kept, .ref h_tape, .int typed, .ref h_draft, .int atv, .ref h_items, .ref h_moved, .ref h_sizes, .ref h_lanes, .ref h_less, .ref h_aside, .ref h_order], ai G h_s 161 f_5, ai G h_images 161 images] := hD
      refine lv_iinc (v := (x1 + (1 : Int32))) (lv' := [(1, .int (x1 + (1 : Int32))), (0, .ref h)]) hx hb dX9_restore_31 hl (k := 1) rfl rfl (by decide) rfl (fun ls hl => ?_)
      refine lv_goto (tgt := 12) hx hb dX9_restore_34 (by decide) ?_
      exact ih f_5 (x1 + (1 : Int32)) H locs hP hD hS ls (lv_sub hl [1, 0] rfl) hw
def wp_X9_restore (kept : Int32) (sv : Nat → Int32) (images : Nat → Int32) (Q : Int32 → ((Nat → Int32)) → Prop) : Prop :=
  ((¬ (kept = 0) → (∃ j_ : Nat, wp_X9_restore_12 kept images Q  j_ sv (0 : Int32))) ∧ ((kept = 0) → Q (-4 : Int32) sv))
set_option maxHeartbeats 4000000 in
theorem mt_X9_restore (l : Launch) (G : GT) (h h_s h_images h_tape h_draft h_items h_moved h_sizes h_lanes h_less h_aside h_order : Nat) (sz : Nat) (kept : Int32) (typed : Int32) (atv : Int32) (sv : Nat → Int32) (images : Nat → Int32) (Q : Int32 → ((Nat → Int32)) → Prop) (hw : wp_X9_restore kept sv images Q) : Met l yX9_restore (ws_ yX9_restore cX9_restore 2 (some .int)) ({ frames := 0, cells := 0, slots := 0, locals := 0 } : Room) (va_Pc [.ref h] (fun U => U.heap.size = sz ∧ va_P G.1 gCl [oc h 9 [.ref h_s, .ref h_images, .int kept, .ref h_tape, .int typed, .ref h_draft, .int atv, .ref h_items, .ref h_moved, .ref h_sizes, .ref h_lanes, .ref h_less, .ref h_aside, .ref h_order], ai G h_s 161 sv, ai G h_images 161 images] U.heap ∧ gK G U ∧ va_D (fun _ => True) [oc h 9 [.ref h_s, .ref h_images, .int kept, .ref h_tape, .int typed, .ref h_draft, .int atv, .ref h_items, .ref h_moved, .ref h_sizes, .ref h_lanes, .ref h_less, .ref h_aside, .ref h_order], ai G h_s 161 sv, ai G h_images 161 images])) ((fun A => (va_Qi (fun (r : Int32) (u : (Nat → Int32)) => Q r u) (fun u t => va_P G.1 gCl [oc h 9 [.ref h_s, .ref h_images, .int kept, .ref h_tape, .int typed, .ref h_draft, .int atv, .ref h_items, .ref h_moved, .ref h_sizes, .ref h_lanes, .ref h_less, .ref h_aside, .ref h_order], ai G h_s 161 u, ai G h_images 161 images] t.heap ∧ va_D A [oc h 9 [.ref h_s, .ref h_images, .int kept, .ref h_tape, .int typed, .ref h_draft, .int atv, .ref h_items, .ref h_moved, .ref h_sizes, .ref h_lanes, .ref h_less, .ref h_aside, .ref h_order], ai G h_s 161 u, ai G h_images 161 images]) A)) (va_A [oc h 9 [.ref h_s, .ref h_images, .int kept, .ref h_tape, .int typed, .ref h_draft, .int atv, .ref h_items, .ref h_moved, .ref h_sizes, .ref h_lanes, .ref h_less, .ref h_aside, .ref h_order], ai G h_s 161 sv, ai G h_images 161 images] sz)) 0 0 (va_A [oc h 9 [.ref h_s, .ref h_images, .int kept, .ref h_tape, .int typed, .ref h_draft, .int atv, .ref h_items, .ref h_moved, .ref h_sizes, .ref h_lanes, .ref h_less, .ref h_aside, .ref h_order], ai G h_s 161 sv, ai G h_images 161 images] sz) := by
  refine Met.ofW (cc := cX9_restore) (maxL := 2) (ret := (some .int)) (by decide) rfl ?_
  intro p e s m args below meth c s₁ B hml hv
  obtain ⟨rfl, hsz, hP, hK, hD0⟩ := hv
  have hx := B.exec
  have hb := B.bytes
  have hr := B.returns
  have hts := atoms_spec (ws := (ws_ yX9_restore cX9_restore 2 (some .int))) B.pre
  have hts : ∀ w ∈ lw_all, w.before _ s = true := fun w h => hts w (List.mem_cons_of_mem _ h)
  have hown : s.vm.findClass RX9 = some m.cls := findClass_of_methodNamed B.named
  have hlocks := B.notSynchronized
  subst hsz
  have hD := hD0.self (sz := s.heap.size)
  generalize hAe : va_A [oc h 9 [.ref h_s, .ref h_images, .int kept, .ref h_tape, .int typed, .ref h_draft, .int atv, .ref h_items, .ref h_moved, .ref h_sizes, .ref h_lanes, .ref h_less, .ref h_aside, .ref h_order], ai G h_s 161 sv, ai G h_images 161 images] s.heap.size = A at hD ⊢
  have hA : ∀ q : Nat, s.heap.size ≤ q → A q := fun q h => by rw [← hAe]; exact Or.inr h
  have hS : va_S A s.heap s.heap [] := va_S.rf
  have C : Cx p s m meth c cX9_restore 2 (some .int) RX9 ([.ref h] : List Value).toArray G A := ⟨hx, hb, hr, hlocks, hml, hown, hts, hK, hA⟩
  have hl := lv_entry ([.ref h]) (n := 2) (Nat.le_of_ble_eq_true rfl)
  rw [lg_entry_eq]
  generalize (lg_sl ([.ref h]) ++ List.replicate (2 - (lg_sl ([.ref h])).length) Slot.unset).toArray = ls at hl ⊢
  have hl : lv_has ls 2 [(0, .ref h)] := hl
  unfold wp_X9_restore at hw
  refine lv_aload_n hx hb dX9_restore_0 rfl (lv_at hl 0 rfl) ?_
  refine va_get (D := G.1) (ci := 9) (v := .int kept) (C := RX9) (T := TX9) (N := 14) hx hb hts in_X9 hown hK.1 hP 0 rfl rfl 2 (by decide) (hts _ q819) (fun _ h9 => h9) rfl dX9_restore_1 ?_
  refine lv_if_ne (tgt := 10) hx hb dX9_restore_4 (by decide) (fun c_1 => ?_) (fun c_1 => ?_)
  · replace hw := hw.1 c_1
    refine lv_iconst (v := (0 : Int32)) hx hb dX9_restore_10 (by decide) ?_
    refine lv_istore_n (lv' := [(1, .int (0 : Int32)), (0, .ref h)]) hx hb dX9_restore_11 rfl hl (by decide) rfl (fun ls hl => ?_)
    obtain ⟨j_, hw⟩ := hw
    exact wk_X9_restore_12 h h_s h_images h_tape h_draft h_items h_moved h_sizes h_lanes h_less h_aside h_order kept typed atv images  Q  C  j_ sv (0 : Int32) s.heap [] hP hD hS ls (lv_sub hl [1, 0] rfl) hw
  · replace hw := hw.2 c_1
    refine lv_bipush (v := (-4 : Int32)) hx hb dX9_restore_7 (by decide) ?_
    have hP9 := hP
    have hD9 := hD
    exact W.iret (v := (-4 : Int32)) hx hb hr (fun t ht hW => ⟨⟨(-4 : Int32), sv, rfl, hw, by rw [ht]; exact hP9, hD9⟩, hS.F ht⟩) hS.2.2 dX9_restore_9
/-! BattleBenchModel.isSheet(I)Z -/
def wp_X9_isSheet (p0 : Int32) (Q : Int32 → Prop) : Prop :=
  wp_X9_in  p0 (0 : Int32) (3 : Int32) (fun r_1 => (z01 r_1 ∧ Q r_1))
set_option maxHeartbeats 4000000 in
theorem mt_X9_isSheet (l : Launch) (G : GT)  (sz : Nat) (p0 : Int32) (Q : Int32 → Prop) (hw : wp_X9_isSheet p0 Q) : Met l yX9_isSheet (ws_ yX9_isSheet cX9_isSheet 1 (some .boolean)) ({ frames := 1, cells := 0, slots := 0, locals := 22 } : Room) (va_Pc [.int p0] (fun U => U.heap.size = sz ∧ va_P G.1 gCl [] U.heap ∧ gK G U ∧ va_D (fun _ => True) [])) ((fun A => (va_Qi (fun (r : Int32) (u : Unit) => Q r ) (fun u t => va_P G.1 gCl [] t.heap ∧ va_D A []) A)) (va_A [] sz)) 0 0 (va_A [] sz) := by
  refine Met.ofW (cc := cX9_isSheet) (maxL := 1) (ret := (some .boolean)) (by decide) rfl ?_
  intro p e s m args below meth c s₁ B hml hv
  obtain ⟨rfl, hsz, hP, hK, hD0⟩ := hv
  have hx := B.exec
  have hb := B.bytes
  have hr := B.returns
  have hts := atoms_spec (ws := (ws_ yX9_isSheet cX9_isSheet 1 (some .boolean))) B.pre
  have hts : ∀ w ∈ lw_all, w.before _ s = true := fun w h => hts w (List.mem_cons_of_mem _ h)
  have hown : s.vm.findClass RX9 = some m.cls := findClass_of_methodNamed B.named
  have hlocks := B.notSynchronized
  subst hsz
  have hD := hD0.self (sz := s.heap.size)
  generalize hAe : va_A [] s.heap.size = A at hD ⊢
  have hA : ∀ q : Nat, s.heap.size ≤ q → A q := fun q h => by rw [← hAe]; exact Or.inr h
  have hS : va_S A s.heap s.heap [] := va_S.rf
  have C : Cx p s m meth c cX9_isSheet 1 (some .boolean) RX9 ([.int p0] : List Value).toArray G A := ⟨hx, hb, hr, hlocks, hml, hown, hts, hK, hA⟩
  have hl := lv_entry ([.int p0]) (n := 1) (Nat.le_of_ble_eq_true rfl)
  rw [lg_entry_eq]
  generalize (lg_sl ([.int p0]) ++ List.replicate (1 - (lg_sl ([.int p0])).length) Slot.unset).toArray = ls at hl ⊢
  have hl : lv_has ls 1 [(0, .int p0)] := hl
  unfold wp_X9_isSheet at hw
  refine lv_iload_n hx hb dX9_isSheet_0 rfl (lv_at hl 0 rfl) ?_
  refine lv_iconst (v := (0 : Int32)) hx hb dX9_isSheet_1 (by decide) ?_
  refine lv_iconst (v := (3 : Int32)) hx hb dX9_isSheet_2 (by decide) ?_
  have hPc := hP.sub (ws' := []) [] rfl
  have hDc := hD.sub (ws' := []) [] (by decide) rfl
  have hFc := va_free (wc := []) hD hS hA [] rfl
  refine va_calli (va_runS (As := [.int p0, .int (0 : Int32), .int (3 : Int32)]) (rest := []) ⟨hx, hb, hml, hown, hts⟩ (mt_X9_in l G  s.heap.size  p0 (0 : Int32) (3 : Int32) _ hw) (va_cwS 3 hts (lw_S q864 q865 q65 q866) rfl rfl rfl (by decide +kernel) ⟨Nat.le_of_ble_eq_true rfl, Nat.le_of_ble_eq_true rfl⟩) ⟨fun a U g mk q => by obtain ⟨q0, q1, qP, qK, qD⟩ := q; exact ⟨q0, q1, qP, qK.call, qD⟩, fun U hU hW => ⟨rfl, by rw [hU], by rw [hU]; exact hPc, hK.warm hW, hDc.weaken (fun _ _ _ _ => trivial)⟩⟩ rfl rfl hl.1 rfl (lv_room (Nat.le_of_ble_eq_true rfl)) dX9_isSheet_3 ⟨Nat.le_of_ble_eq_true rfl, Nat.le_of_ble_eq_true rfl⟩) hS (fun q _ h => hFc q h) hFc (fun r_1 _ t H1 locs ht hvm hw hB hz1 hk1 hS => ?_)
  obtain ⟨hP1, hD1⟩ := hB
  rw [ht] at hP1
  obtain ⟨hP, hD⟩ := va_join (wr := []) (w1 := []) hP hD [] [] rfl rfl (by decide) (by decide) hk1 hFc hP1 hD1
  clear hPc hDc hFc hP1 hD1 hz1 hk1 hvm
  generalize H1 = H at hP hS ⊢
  have hP : va_P G.1 gCl [] H := hP
  have hD : va_D A [] := hD
  obtain ⟨hz, hw⟩ := hw
  have hP9 := hP
  have hD9 := hD
  exact W.zret (v := r_1) hx hb hr (z01.nar hz) (fun t ht hW => ⟨⟨r_1, (), rfl, hw, by rw [ht]; exact hP9, hD9⟩, hS.F ht⟩) hS.2.2 dX9_isSheet_6
/-! BattleBenchModel.barred(IIII)I -/
def wp_X9_barred (sizes : Nat → Int32) (lanes : Nat → Int32) (p1 : Int32) (p2 : Int32) (p3 : Int32) (p4 : Int32) (Q : Int32 → Prop) : Prop :=
  (vp_in p1 4 ∧ (((0 ≤ (sizes p1.toNatClampNeg)) → (vp_in p1 4 ∧ ((((lanes p1.toNatClampNeg) = p2) → (((p3 < 0) → Q (-13 : Int32)) ∧ (¬ (p3 < 0) → (((p4 < 0) → Q (-13 : Int32)) ∧ (¬ (p4 < 0) → (vp_in p1 4 ∧ ((((sizes p1.toNatClampNeg) < p4) → Q (-13 : Int32)) ∧ (¬ ((sizes p1.toNatClampNeg) < p4) → (vp_in p1 4 ∧ (((p3 ≤ ((sizes p1.toNatClampNeg) - p4)) → Q (0 : Int32)) ∧ (¬ (p3 ≤ ((sizes p1.toNatClampNeg) - p4)) → Q (-13 : Int32)))))))))))) ∧ (¬ ((lanes p1.toNatClampNeg) = p2) → Q (-12 : Int32))))) ∧ (¬ (0 ≤ (sizes p1.toNatClampNeg)) → Q (-11 : Int32))))
set_option maxHeartbeats 4000000 in
theorem mt_X9_barred (l : Launch) (G : GT) (h h_s h_images h_tape h_draft h_items h_moved h_sizes h_lanes h_less h_aside h_order : Nat) (sz : Nat) (kept : Int32) (typed : Int32) (atv : Int32) (sizes : Nat → Int32) (lanes : Nat → Int32) (p1 : Int32) (p2 : Int32) (p3 : Int32) (p4 : Int32) (Q : Int32 → Prop) (hw : wp_X9_barred sizes lanes p1 p2 p3 p4 Q) : Met l yX9_barred (ws_ yX9_barred cX9_barred 5 (some .int)) ({ frames := 0, cells := 0, slots := 0, locals := 0 } : Room) (va_Pc [.ref h, .int p1, .int p2, .int p3, .int p4] (fun U => U.heap.size = sz ∧ va_P G.1 gCl [oc h 9 [.ref h_s, .ref h_images, .int kept, .ref h_tape, .int typed, .ref h_draft, .int atv, .ref h_items, .ref h_moved, .ref h_sizes, .ref h_lanes, .ref h_less, .ref h_aside, .ref h_order], ai G h_sizes 4 sizes, ai G h_lanes 4 lanes] U.heap ∧ gK G U ∧ va_D (fun _ => True) [oc h 9 [.ref h_s, .ref h_images, .int kept, .ref h_tape, .int typed, .ref h_draft, .int atv, .ref h_items, .ref h_moved, .ref h_sizes, .ref h_lanes, .ref h_less, .ref h_aside, .ref h_order], ai G h_sizes 4 sizes, ai G h_lanes 4 lanes])) ((fun A => (va_Qi (fun (r : Int32) (u : Unit) => Q r ) (fun u t => va_P G.1 gCl [oc h 9 [.ref h_s, .ref h_images, .int kept, .ref h_tape, .int typed, .ref h_draft, .int atv, .ref h_items, .ref h_moved, .ref h_sizes, .ref h_lanes, .ref h_less, .ref h_aside, .ref h_order], ai G h_sizes 4 sizes, ai G h_lanes 4 lanes] t.heap ∧ va_D A [oc h 9 [.ref h_s, .ref h_images, .int kept, .ref h_tape, .int typed, .ref h_draft, .int atv, .ref h_items, .ref h_moved, .ref h_sizes, .ref h_lanes, .ref h_less, .ref h_aside, .ref h_order], ai G h_sizes 4 sizes, ai G h_lanes 4 lanes]) A)) (va_A [oc h 9 [.ref h_s, .ref h_images, .int kept, .ref h_tape, .int typed, .ref h_draft, .int atv, .ref h_items, .ref h_moved, .ref h_sizes, .ref h_lanes, .ref h_less, .ref h_aside, .ref h_order], ai G h_sizes 4 sizes, ai G h_lanes 4 lanes] sz)) 0 0 (va_A [oc h 9 [.ref h_s, .ref h_images, .int kept, .ref h_tape, .int typed, .ref h_draft, .int atv, .ref h_items, .ref h_moved, .ref h_sizes, .ref h_lanes, .ref h_less, .ref h_aside, .ref h_order], ai G h_sizes 4 sizes, ai G h_lanes 4 lanes] sz) := by
  refine Met.ofW (cc := cX9_barred) (maxL := 5) (ret := (some .int)) (by decide) rfl ?_
  intro p e s m args below meth c s₁ B hml hv
  obtain ⟨rfl, hsz, hP, hK, hD0⟩ := hv
  have hx := B.exec
  have hb := B.bytes
  have hr := B.returns
  have hts := atoms_spec (ws := (ws_ yX9_barred cX9_barred 5 (some .int))) B.pre
  have hts : ∀ w ∈ lw_all, w.before _ s = true := fun w h => hts w (List.mem_cons_of_mem _ h)
  have hown : s.vm.findClass RX9 = some m.cls := findClass_of_methodNamed B.named
  have hlocks := B.notSynchronized
  subst hsz
  have hD := hD0.self (sz := s.heap.size)
  generalize hAe : va_A [oc h 9 [.ref h_s, .ref h_images, .int kept, .ref h_tape, .int typed, .ref h_draft, .int atv, .ref h_items, .ref h_moved, .ref h_sizes, .ref h_lanes, .ref h_less, .ref h_aside, .ref h_order], ai G h_sizes 4 sizes, ai G h_lanes 4 lanes] s.heap.size = A at hD ⊢
  have hA : ∀ q : Nat, s.heap.size ≤ q → A q := fun q h => by rw [← hAe]; exact Or.inr h
  have hS : va_S A s.heap s.heap [] := va_S.rf
  have C : Cx p s m meth c cX9_barred 5 (some .int) RX9 ([.ref h, .int p1, .int p2, .int p3, .int p4] : List Value).toArray G A := ⟨hx, hb, hr, hlocks, hml, hown, hts, hK, hA⟩
  have hl := lv_entry ([.ref h, .int p1, .int p2, .int p3, .int p4]) (n := 5) (Nat.le_of_ble_eq_true rfl)
  rw [lg_entry_eq]
  generalize (lg_sl ([.ref h, .int p1, .int p2, .int p3, .int p4]) ++ List.replicate (5 - (lg_sl ([.ref h, .int p1, .int p2, .int p3, .int p4])).length) Slot.unset).toArray = ls at hl ⊢
  have hl : lv_has ls 5 [(0, .ref h), (1, .int p1), (2, .int p2), (3, .int p3), (4, .int p4)] := hl
  unfold wp_X9_barred at hw
  refine lv_aload_n hx hb dX9_barred_0 rfl (lv_at hl 0 rfl) ?_
  refine va_get (D := G.1) (ci := 9) (v := .ref h_sizes) (C := RX9) (T := TX9) (N := 14) hx hb hts in_X9 hown hK.1 hP 0 rfl rfl 9 (by decide) (hts _ q826) (fun _ h9 => h9) rfl dX9_barred_1 ?_
  refine lv_iload_n hx hb dX9_barred_4 rfl (lv_at hl 1 rfl) ?_
  obtain ⟨i_1, hw⟩ := hw
  refine z_iald hx hb hK.1 hP 1 0 rfl rfl i_1 dX9_barred_5 (k := p1.toNatClampNeg) rfl ?_
  refine lv_if_ge (tgt := 12) hx hb dX9_barred_6 (by decide) (fun c_2 => ?_) (fun c_2 => ?_)
  · replace hw := hw.1 c_2
    refine lv_aload_n hx hb dX9_barred_12 rfl (lv_at hl 0 rfl) ?_
    refine va_get (D := G.1) (ci := 9) (v := .ref h_lanes) (C := RX9) (T := TX9) (N := 14) hx hb hts in_X9 hown hK.1 hP 0 rfl rfl 10 (by decide) (hts _ q827) (fun _ h9 => h9) rfl dX9_barred_13 ?_
    refine lv_iload_n hx hb dX9_barred_16 rfl (lv_at hl 1 rfl) ?_
    obtain ⟨i_3, hw⟩ := hw
    refine z_iald hx hb hK.1 hP 2 0 rfl rfl i_3 dX9_barred_17 (k := p1.toNatClampNeg) rfl ?_
    refine lv_iload_n hx hb dX9_barred_18 rfl (lv_at hl 2 rfl) ?_
    refine lv_icmp_eq (tgt := 25) hx hb dX9_barred_19 (by decide) (fun c_4 => ?_) (fun c_4 => ?_)
    · replace hw := hw.1 c_4
      refine lv_iload_n hx hb dX9_barred_25 rfl (lv_at hl 3 rfl) ?_
      refine lv_if_lt (tgt := 58) hx hb dX9_barred_26 (by decide) (fun c_5 => ?_) (fun c_5 => ?_)
      · replace hw := hw.1 c_5
        refine lv_bipush (v := (-13 : Int32)) hx hb dX9_barred_58 (by decide) ?_
        refine lv_goto (tgt := 64) hx hb dX9_barred_60 (by decide) ?_
        have hP9 := hP
        have hD9 := hD
        exact W.iret (v := (-13 : Int32)) hx hb hr (fun t ht hW => ⟨⟨(-13 : Int32), (), rfl, hw, by rw [ht]; exact hP9, hD9⟩, hS.F ht⟩) hS.2.2 dX9_barred_64
      · replace hw := hw.2 c_5
        refine lv_iload hx hb dX9_barred_29 (lv_at hl 4 rfl) ?_
        refine lv_if_lt (tgt := 58) hx hb dX9_barred_31 (by decide) (fun c_6 => ?_) (fun c_6 => ?_)
        · replace hw := hw.1 c_6
          refine lv_bipush (v := (-13 : Int32)) hx hb dX9_barred_58 (by decide) ?_
          refine lv_goto (tgt := 64) hx hb dX9_barred_60 (by decide) ?_
          have hP9 := hP
          have hD9 := hD
          exact W.iret (v := (-13 : Int32)) hx hb hr (fun t ht hW => ⟨⟨(-13 : Int32), (), rfl, hw, by rw [ht]; exact hP9, hD9⟩, hS.F ht⟩) hS.2.2 dX9_barred_64
        · replace hw := hw.2 c_6
          refine lv_iload hx hb dX9_barred_34 (lv_at hl 4 rfl) ?_
          refine lv_aload_n hx hb dX9_barred_36 rfl (lv_at hl 0 rfl) ?_
          refine va_get (D := G.1) (ci := 9) (v := .ref h_sizes) (C := RX9) (T := TX9) (N := 14) hx hb hts in_X9 hown hK.1 hP 0 rfl rfl 9 (by decide) (hts _ q826) (fun _ h9 => h9) rfl dX9_barred_37 ?_
          refine lv_iload_n hx hb dX9_barred_40 rfl (lv_at hl 1 rfl) ?_
          obtain ⟨i_7, hw⟩ := hw
          refine z_iald hx hb hK.1 hP 1 0 rfl rfl i_7 dX9_barred_41 (k := p1.toNatClampNeg) rfl ?_
          refine lv_icmp_gt (tgt := 58) hx hb dX9_barred_42 (by decide) (fun c_8 => ?_) (fun c_8 => ?_)
          · replace hw := hw.1 c_8
            refine lv_bipush (v := (-13 : Int32)) hx hb dX9_barred_58 (by decide) ?_
            refine lv_goto (tgt := 64) hx hb dX9_barred_60 (by decide) ?_
            have hP9 := hP
            have hD9 := hD
            exact W.iret (v := (-13 : Int32)) hx hb hr (fun t ht hW => ⟨⟨(-13 : Int32), (), rfl, hw, by rw [ht]; exact hP9, hD9⟩, hS.F ht⟩) hS.2.2 dX9_barred_64
          · replace hw := hw.2 c_8
            refine lv_iload_n hx hb dX9_barred_45 rfl (lv_at hl 3 rfl) ?_
            refine lv_aload_n hx hb dX9_barred_46 rfl (lv_at hl 0 rfl) ?_
            refine va_get (D := G.1) (ci := 9) (v := .ref h_sizes) (C := RX9) (T := TX9) (N := 14) hx hb hts in_X9 hown hK.1 hP 0 rfl rfl 9 (by decide) (hts _ q826) (fun _ h9 => h9) rfl dX9_barred_47 ?_
            refine lv_iload_n hx hb dX9_barred_50 rfl (lv_at hl 1 rfl) ?_
            obtain ⟨i_9, hw⟩ := hw
            refine z_iald hx hb hK.1 hP 1 0 rfl rfl i_9 dX9_barred_51 (k := p1.toNatClampNeg) rfl ?_
            refine lv_iload hx hb dX9_barred_52 (lv_at hl 4 rfl) ?_
            refine lv_isub hx hb dX9_barred_54 ?_
            refine lv_icmp_le (tgt := 63) hx hb dX9_barred_55 (by decide) (fun c_10 => ?_) (fun c_10 => ?_)
            · replace hw := hw.1 c_10
              refine lv_iconst (v := (0 : Int32)) hx hb dX9_barred_63 (by decide) ?_
              have hP9 := hP
              have hD9 := hD
              exact W.iret (v := (0 : Int32)) hx hb hr (fun t ht hW => ⟨⟨(0 : Int32), (), rfl, hw, by rw [ht]; exact hP9, hD9⟩, hS.F ht⟩) hS.2.2 dX9_barred_64
            · replace hw := hw.2 c_10
              refine lv_bipush (v := (-13 : Int32)) hx hb dX9_barred_58 (by decide) ?_
              refine lv_goto (tgt := 64) hx hb dX9_barred_60 (by decide) ?_
              have hP9 := hP
              have hD9 := hD
              exact W.iret (v := (-13 : Int32)) hx hb hr (fun t ht hW => ⟨⟨(-13 : Int32), (), rfl, hw, by rw [ht]; exact hP9, hD9⟩, hS.F ht⟩) hS.2.2 dX9_barred_64
    · replace hw := hw.2 c_4
      refine lv_bipush (v := (-12 : Int32)) hx hb dX9_barred_22 (by decide) ?_
      have hP9 := hP
      have hD9 := hD
      exact W.iret (v := (-12 : Int32)) hx hb hr (fun t ht hW => ⟨⟨(-12 : Int32), (), rfl, hw, by rw [ht]; exact hP9, hD9⟩, hS.F ht⟩) hS.2.2 dX9_barred_24
  · replace hw := hw.2 c_2
    refine lv_bipush (v := (-11 : Int32)) hx hb dX9_barred_9 (by decide) ?_
    have hP9 := hP
    have hD9 := hD
    exact W.iret (v := (-11 : Int32)) hx hb hr (fun t ht hW => ⟨⟨(-11 : Int32), (), rfl, hw, by rw [ht]; exact hP9, hD9⟩, hS.F ht⟩) hS.2.2 dX9_barred_11
/-! BattleBenchModel.isSo(III)Z -/
def wp_X9_isSo_6 (items : Nat → Int64) (aside : Nat → Int32) (p1 : Int32) (p2 : Int32) (p3 : Int32) (Q : Int32 → ((Nat → Int32) × (Nat → Int32)) → Prop)  : Nat → (Nat → Int32) → (Nat → Int32) → Int32 → Int32 → Prop
  | 0, _, _, _, _ => False
  | n + 1, sv, less, x4, x5 =>
    (((p3 ≤ x5) → wp_X9_lets sv aside  (fun u_2 => (z01 x4 ∧ Q x4 (u_2, less)))) ∧ (¬ (p3 ≤ x5) → (((x4 = 0) → wp_X9_lets sv aside  (fun u_4 => (z01 x4 ∧ Q x4 (u_4, less)))) ∧ (¬ (x4 = 0) → wp_X9_passes sv less  (fun u_5 => (vp_in (p2 + x5) 96 ∧ (vp_in ((4 : Int32) + p1) 161 ∧ ((¬ ((lg_cmp (items ((p2 + x5)).toNatClampNeg) (Int32.toInt64 (u_5.1 (((4 : Int32) + p1)).toNatClampNeg))) = 0) → wp_X9_isSo_6 items aside p1 p2 p3 Q  n u_5.1 u_5.2 (0 : Int32) (x5 + (1 : Int32))) ∧ (((lg_cmp (items ((p2 + x5)).toNatClampNeg) (Int32.toInt64 (u_5.1 (((4 : Int32) + p1)).toNatClampNeg))) = 0) → wp_X9_isSo_6 items aside p1 p2 p3 Q  n u_5.1 u_5.2 (1 : Int32) (x5 + (1 : Int32)))))))))))
set_option maxHeartbeats 4000000 in
theorem wk_X9_isSo_6 {p : Program} {l : Launch} {e : Env} {s : State} {m : MethodId} {below : List Frame} {meth : Method} {c : Code} {args : Array Value} {G : GT} {A : Nat → Prop} (h h_s h_images h_tape h_draft h_items h_moved h_sizes h_lanes h_less h_aside h_order : Nat) (kept : Int32) (typed : Int32) (atv : Int32) (items : Nat → Int64) (aside : Nat → Int32) (p1 : Int32) (p2 : Int32) (p3 : Int32) (Q : Int32 → ((Nat → Int32) × (Nat → Int32)) → Prop)  (C : Cx p s m meth c cX9_isSo 6 (some .boolean) RX9 args G A)  :
    ∀ (n : Nat), ∀  (sv : Nat → Int32) (less : Nat → Int32) (x4 : Int32) (x5 : Int32) (H : Heap) (locs : List Loc), va_P G.1 gCl [oc h 9 [.ref h_s, .ref h_images, .int kept, .ref h_tape, .int typed, .ref h_draft, .int atv, .ref h_items, .ref h_moved, .ref h_sizes, .ref h_lanes, .ref h_less, .ref h_aside, .ref h_order], ai G h_s 161 sv, al G h_items 96 items, ai G h_less 6 less, ai G h_aside 40 aside] H → va_D A [oc h 9 [.ref h_s, .ref h_images, .int kept, .ref h_tape, .int typed, .ref h_draft, .int atv, .ref h_items, .ref h_moved, .ref h_sizes, .ref h_lanes, .ref h_less, .ref h_aside, .ref h_order], ai G h_s 161 sv, al G h_items 96 items, ai G h_less 6 less, ai G h_aside 40 aside] → va_S A s.heap H locs → ∀ (ls : Array Slot), lv_has ls 6 [(0, .ref h), (1, .int p1), (2, .int p2), (3, .int p3), (4, .int x4), (5, .int x5)] → wp_X9_isSo_6 items aside p1 p2 p3 Q  n sv less x4 x5 → W p l e ({ frames := 5, cells := 0, slots := 0, locals := 113 } : Room) s m args below meth c H locs 0 0 (MQ below (va_Qi (fun (r : Int32) (u : (Nat → Int32) × (Nat → Int32)) => Q r u) (fun u t => va_P G.1 gCl [oc h 9 [.ref h_s, .ref h_images, .int kept, .ref h_tape, .int typed, .ref h_draft, .int atv, .ref h_items, .ref h_moved, .ref h_sizes, .ref h_lanes, .ref h_less, .ref h_aside, .ref h_order], ai G h_s 161 u.1, al G h_items 96 items, ai G h_less 6 u.2, ai G h_aside 40 aside] t.heap ∧ va_D A [oc h 9 [.ref h_s, .ref h_images, .int kept, .ref h_tape, .int typed, .ref h_draft, .int atv, .ref h_items, .ref h_moved, .ref h_sizes, .ref h_lanes, .ref h_less, .ref h_aside, .ref h_order], ai G h_s 161 u.1, al G h_items 96 items, ai G h_less 6 u.2, ai G h_aside 40 aside]) A) args s 0 0 A) (F0 m 6 ls []) := by
  have C9 := C
  obtain ⟨hx, hb, hr, hlocks, hml, hown, hts, hK, hA⟩ := C9
  intro n
  induction n with
  | zero => intro sv less x4 x5 H locs hP hD hS ls hl hw; exact False.elim hw
  | succ n ih =>
    intro sv less x4 x5 H locs hP hD hS ls hl hw
    unfold wp_X9_isSo_6 at hw
    refine lv_iload hx hb dX9_isSo_6 (lv_at hl 5 rfl) ?_
    refine lv_iload_n hx hb dX9_isSo_8 rfl (lv_at hl 3 rfl) ?_
    refine lv_icmp_ge (tgt := 56) hx hb dX9_isSo_9 (by decide) (fun c_1 => ?_) (fun c_1 => ?_)
    · replace hw := hw.1 c_1
      refine lv_aload_n hx hb dX9_isSo_56 rfl (lv_at hl 0 rfl) ?_
      have hPc := hP.sub (ws' := [oc h 9 [.ref h_s, .ref h_images, .int kept, .ref h_tape, .int typed, .ref h_draft, .int atv, .ref h_items, .ref h_moved, .ref h_sizes, .ref h_lanes, .ref h_less, .ref h_aside, .ref h_order], ai G h_s 161 sv, ai G h_aside 40 aside]) [0, 1, 4] rfl
      have hDc := hD.sub (ws' := [oc h 9 [.ref h_s, .ref h_images, .int kept, .ref h_tape, .int typed, .ref h_draft, .int atv, .ref h_items, .ref h_moved, .ref h_sizes, .ref h_lanes, .ref h_less, .ref h_aside, .ref h_order], ai G h_s 161 sv, ai G h_aside 40 aside]) [0, 1, 4] (by decide) rfl
      have hFc := va_free (wc := [oc h 9 [.ref h_s, .ref h_images, .int kept, .ref h_tape, .int typed, .ref h_draft, .int atv, .ref h_items, .ref h_moved, .ref h_sizes, .ref h_lanes, .ref h_less, .ref h_aside, .ref h_order], ai G h_s 161 sv, ai G h_aside 40 aside]) hD hS hA [0, 1, 4] rfl
      refine va_callv (va_runV (As := []) (rest := []) ⟨hx, hb, hml, hown, hts⟩ (mt_X9_lets l G h h_s h_images h_tape h_draft h_items h_moved h_sizes h_lanes h_less h_aside h_order H.size kept typed atv sv aside  _ hw) (cwV 0 hts (lw_V q1014 q1016 qs46 q65 q1017) rfl rfl rfl (by decide +kernel) ⟨Nat.le_of_ble_eq_true rfl, Nat.le_of_ble_eq_true rfl⟩) ⟨fun a U g mk q => by obtain ⟨q0, q1, qP, qK, qD⟩ := q; exact ⟨q0, q1, qP, qK.call, qD⟩, va_recv hK.1 hP (ci := 9) (q0 := 0) rfl rfl, fun U hU hW => ⟨rfl, by rw [hU], by rw [hU]; exact hPc, hK.warm hW, hDc.weaken (fun _ _ _ _ => trivial)⟩⟩ rfl rfl hl.1 rfl (lv_room (Nat.le_of_ble_eq_true rfl)) dX9_isSo_57 ⟨Nat.le_of_ble_eq_true rfl, Nat.le_of_ble_eq_true rfl⟩) hS (fun q _ h => hFc q h) hFc (fun u_2 t H1 locs ht hvm hw hB hz1 hk1 hS => ?_)
      obtain ⟨hP1, hD1⟩ := hB
      rw [ht] at hP1
      obtain ⟨hP, hD⟩ := va_join (wr := [al G h_items 96 items, ai G h_less 6 less]) (w1 := [oc h 9 [.ref h_s, .ref h_images, .int kept, .ref h_tape, .int typed, .ref h_draft, .int atv, .ref h_items, .ref h_moved, .ref h_sizes, .ref h_lanes, .ref h_less, .ref h_aside, .ref h_order], ai G h_s 161 u_2, ai G h_aside 40 aside]) hP hD [0, 1, 4] [2, 3] rfl rfl (by decide) (by decide) hk1 hFc hP1 hD1
      clear hPc hDc hFc hP1 hD1 hz1 hk1 hvm
      generalize H1 = H at hP hS ⊢
      have hP : va_P G.1 gCl [al G h_items 96 items, ai G h_less 6 less, oc h 9 [.ref h_s, .ref h_images, .int kept, .ref h_tape, .int typed, .ref h_draft, .int atv, .ref h_items, .ref h_moved, .ref h_sizes, .ref h_lanes, .ref h_less, .ref h_aside, .ref h_order], ai G h_s 161 u_2, ai G h_aside 40 aside] H := hP
      have hD : va_D A [al G h_items 96 items, ai G h_less 6 less, oc h 9 [.ref h_s, .ref h_images, .int kept, .ref h_tape, .int typed, .ref h_draft, .int atv, .ref h_items, .ref h_moved, .ref h_sizes, .ref h_lanes, .ref h_less, .ref h_aside, .ref h_order], ai G h_s 161 u_2, ai G h_aside 40 aside] := hD
      refine lv_iload hx hb dX9_isSo_60 (lv_at hl 4 rfl) ?_
      obtain ⟨hz, hw⟩ := hw
      have hP9 := hP.sub (ws' := [oc h 9 [.ref h_s, .ref h_images, .int kept, .ref h_tape, .int typed, .ref h_draft, .int atv, .ref h_items, .ref h_moved, .ref h_sizes, .ref h_lanes, .ref h_less, .ref h_aside, .ref h_order], ai G h_s 161 u_2, al G h_items 96 items, ai G h_less 6 less, ai G h_aside 40 aside]) [2, 3, 0, 1, 4] rfl
      have hD9 := hD.sub (ws' := [oc h 9 [.ref h_s, .ref h_images, .int kept, .ref h_tape, .int typed, .ref h_draft, .int atv, .ref h_items, .ref h_moved, .ref h_sizes, .ref h_lanes, .ref h_less, .ref h_aside, .ref h_order], ai G h_s 161 u_2, al G h_items 96 items, ai G h_less 6 less, ai G h_aside 40 aside]) [2, 3, 0, 1, 4] (by decide) rfl
      exact W.zret (v := x4) hx hb hr (z01.nar hz) (fun t ht hW => ⟨⟨x4, (u_2, less), rfl, hw, by rw [ht]; exact hP9, hD9⟩, hS.F ht⟩) hS.2.2 dX9_isSo_62
    · replace hw := hw.2 c_1
      refine lv_iload hx hb dX9_isSo_12 (lv_at hl 4 rfl) ?_
      refine lv_if_eq (tgt := 56) hx hb dX9_isSo_14 (by decide) (fun c_3 => ?_) (fun c_3 => ?_)
      · replace hw := hw.1 c_3
        refine lv_aload_n hx hb dX9_isSo_56 rfl (lv_at hl 0 rfl) ?_
        have hPc := hP.sub (ws' := [oc h 9 [.ref h_s, .ref h_images, .int kept, .ref h_tape, .int typed, .ref h_draft, .int atv, .ref h_items, .ref h_moved, .ref h_sizes, .ref h_lanes, .ref h_less, .ref h_aside, .ref h_order], ai G h_s 161 sv, ai G h_aside 40 aside]) [0, 1, 4] rfl
        have hDc := hD.sub (ws' := [oc h 9 [.ref h_s, .ref h_images, .int kept, .ref h_tape, .int typed, .ref h_draft, .int atv, .ref h_items, .ref h_moved, .ref h_sizes, .ref h_lanes, .ref h_less, .ref h_aside, .ref h_order], ai G h_s 161 sv, ai G h_aside 40 aside]) [0, 1, 4] (by decide) rfl
        have hFc := va_free (wc := [oc h 9 [.ref h_s, .ref h_images, .int kept, .ref h_tape, .int typed, .ref h_draft, .int atv, .ref h_items, .ref h_moved, .ref h_sizes, .ref h_lanes, .ref h_less, .ref h_aside, .ref h_order], ai G h_s 161 sv, ai G h_aside 40 aside]) hD hS hA [0, 1, 4] rfl
        refine va_callv (va_runV (As := []) (rest := []) ⟨hx, hb, hml, hown, hts⟩ (mt_X9_lets l G h h_s h_images h_tape h_draft h_items h_moved h_sizes h_lanes h_less h_aside h_order H.size kept typed atv sv aside  _ hw) (cwV 0 hts (lw_V q1014 q1016 qs46 q65 q1017) rfl rfl rfl (by decide +kernel) ⟨Nat.le_of_ble_eq_true rfl, Nat.le_of_ble_eq_true rfl⟩) ⟨fun a U g mk q => by obtain ⟨q0, q1, qP, qK, qD⟩ := q; exact ⟨q0, q1, qP, qK.call, qD⟩, va_recv hK.1 hP (ci := 9) (q0 := 0) rfl rfl, fun U hU hW => ⟨rfl, by rw [hU], by rw [hU]; exact hPc, hK.warm hW, hDc.weaken (fun _ _ _ _ => trivial)⟩⟩ rfl rfl hl.1 rfl (lv_room (Nat.le_of_ble_eq_true rfl)) dX9_isSo_57 ⟨Nat.le_of_ble_eq_true rfl, Nat.le_of_ble_eq_true rfl⟩) hS (fun q _ h => hFc q h) hFc (fun u_4 t H1 locs ht hvm hw hB hz1 hk1 hS => ?_)
        obtain ⟨hP1, hD1⟩ := hB
        rw [ht] at hP1
        obtain ⟨hP, hD⟩ := va_join (wr := [al G h_items 96 items, ai G h_less 6 less]) (w1 := [oc h 9 [.ref h_s, .ref h_images, .int kept, .ref h_tape, .int typed, .ref h_draft, .int atv, .ref h_items, .ref h_moved, .ref h_sizes, .ref h_lanes, .ref h_less, .ref h_aside, .ref h_order], ai G h_s 161 u_4, ai G h_aside 40 aside]) hP hD [0, 1, 4] [2, 3] rfl rfl (by decide) (by decide) hk1 hFc hP1 hD1
        clear hPc hDc hFc hP1 hD1 hz1 hk1 hvm
        generalize H1 = H at hP hS ⊢
        have hP : va_P G.1 gCl [al G h_items 96 items, ai G h_less 6 less, oc h 9 [.ref h_s, .ref h_images, .int kept, .ref h_tape, .int typed, .ref h_draft, .int atv, .ref h_items, .ref h_moved, .ref h_sizes, .ref h_lanes, .ref h_less, .ref h_aside, .ref h_order], ai G h_s 161 u_4, ai G h_aside 40 aside] H := hP
        have hD : va_D A [al G h_items 96 items, ai G h_less 6 less, oc h 9 [.ref h_s, .ref h_images, .int kept, .ref h_tape, .int typed, .ref h_draft, .int atv, .ref h_items, .ref h_moved, .ref h_sizes, .ref h_lanes, .ref h_less, .ref h_aside, .ref h_order], ai G h_s 161 u_4, ai G h_aside 40 aside] := hD
        refine lv_iload hx hb dX9_isSo_60 (lv_at hl 4 rfl) ?_
        obtain ⟨hz, hw⟩ := hw
        have hP9 := hP.sub (ws' := [oc h 9 [.ref h_s, .ref h_images, .int kept, .ref h_tape, .int typed, .ref h_draft, .int atv, .ref h_items, .ref h_moved, .ref h_sizes, .ref h_lanes, .ref h_less, .ref h_aside, .ref h_order], ai G h_s 161 u_4, al G h_items 96 items, ai G h_less 6 less, ai G h_aside 40 aside]) [2, 3, 0, 1, 4] rfl
        have hD9 := hD.sub (ws' := [oc h 9 [.ref h_s, .ref h_images, .int kept, .ref h_tape, .int typed, .ref h_draft, .int atv, .ref h_items, .ref h_moved, .ref h_sizes, .ref h_lanes, .ref h_less, .ref h_aside, .ref h_order], ai G h_s 161 u_4, al G h_items 96 items, ai G h_less 6 less, ai G h_aside 40 aside]) [2, 3, 0, 1, 4] (by decide) rfl
        exact W.zret (v := x4) hx hb hr (z01.nar hz) (fun t ht hW => ⟨⟨x4, (u_4, less), rfl, hw, by rw [ht]; exact hP9, hD9⟩, hS.F ht⟩) hS.2.2 dX9_isSo_62
      · replace hw := hw.2 c_3
        refine lv_aload_n hx hb dX9_isSo_17 rfl (lv_at hl 0 rfl) ?_
        have hPc := hP.sub (ws' := [oc h 9 [.ref h_s, .ref h_images, .int kept, .ref h_tape, .int typed, .ref h_draft, .int atv, .ref h_items, .ref h_moved, .ref h_sizes, .ref h_lanes, .ref h_less, .ref h_aside, .ref h_order], ai G h_s 161 sv, ai G h_less 6 less]) [0, 1, 3] rfl
        have hDc := hD.sub (ws' := [oc h 9 [.ref h_s, .ref h_images, .int kept, .ref h_tape, .int typed, .ref h_draft, .int atv, .ref h_items, .ref h_moved, .ref h_sizes, .ref h_lanes, .ref h_less, .ref h_aside, .ref h_order], ai G h_s 161 sv, ai G h_less 6 less]) [0, 1, 3] (by decide) rfl
        have hFc := va_free (wc := [oc h 9 [.ref h_s, .ref h_images, .int kept, .ref h_tape, .int typed, .ref h_draft, .int atv, .ref h_items, .ref h_moved, .ref h_sizes, .ref h_lanes, .ref h_less, .ref h_aside, .ref h_order], ai G h_s 161 sv, ai G h_less 6 less]) hD hS hA [0, 1, 3] rfl
        refine va_callv (va_runV (As := []) (rest := []) ⟨hx, hb, hml, hown, hts⟩ (mt_X9_passes l G h h_s h_images h_tape h_draft h_items h_moved h_sizes h_lanes h_less h_aside h_order H.size kept typed atv sv less  _ hw) (cwV 0 hts (lw_V q972 q974 qs43 q65 q975) rfl rfl rfl (by decide +kernel) ⟨Nat.le_of_ble_eq_true rfl, Nat.le_of_ble_eq_true rfl⟩) ⟨fun a U g mk q => by obtain ⟨q0, q1, qP, qK, qD⟩ := q; exact ⟨q0, q1, qP, qK.call, qD⟩, va_recv hK.1 hP (ci := 9) (q0 := 0) rfl rfl, fun U hU hW => ⟨rfl, by rw [hU], by rw [hU]; exact hPc, hK.warm hW, hDc.weaken (fun _ _ _ _ => trivial)⟩⟩ rfl rfl hl.1 rfl (lv_room (Nat.le_of_ble_eq_true rfl)) dX9_isSo_18 ⟨Nat.le_of_ble_eq_true rfl, Nat.le_of_ble_eq_true rfl⟩) hS (fun q _ h => hFc q h) hFc (fun u_5 t H1 locs ht hvm hw hB hz1 hk1 hS => ?_)
        obtain ⟨hP1, hD1⟩ := hB
        rw [ht] at hP1
        obtain ⟨hP, hD⟩ := va_join (wr := [al G h_items 96 items, ai G h_aside 40 aside]) (w1 := [oc h 9 [.ref h_s, .ref h_images, .int kept, .ref h_tape, .int typed, .ref h_draft, .int atv, .ref h_items, .ref h_moved, .ref h_sizes, .ref h_lanes, .ref h_less, .ref h_aside, .ref h_order], ai G h_s 161 u_5.1, ai G h_less 6 u_5.2]) hP hD [0, 1, 3] [2, 4] rfl rfl (by decide) (by decide) hk1 hFc hP1 hD1
        clear hPc hDc hFc hP1 hD1 hz1 hk1 hvm
        generalize H1 = H at hP hS ⊢
        have hP : va_P G.1 gCl [al G h_items 96 items, ai G h_aside 40 aside, oc h 9 [.ref h_s, .ref h_images, .int kept, .ref h_tape, .int typed, .ref h_draft, .int atv, .ref h_items, .ref h_moved, .ref h_sizes, .ref h_lanes, .ref h_less, .ref h_aside, .ref h_order], ai G h_s 161 u_5.1, ai G h_less 6 u_5.2] H := hP
        have hD : va_D A [al G h_items 96 items, ai G h_aside 40 aside, oc h 9 [.ref h_s, .ref h_images, .int kept, .ref h_tape, .int typed, .ref h_draft, .int atv, .ref h_items, .ref h_moved, .ref h_sizes, .ref h_lanes, .ref h_less, .ref h_aside, .ref h_order], ai G h_s 161 u_5.1, ai G h_less 6 u_5.2] := hD
        refine lv_aload_n hx hb dX9_isSo_21 rfl (lv_at hl 0 rfl) ?_
        refine va_get (D := G.1) (ci := 9) (v := .ref h_items) (C := RX9) (T := TX9) (N := 14) hx hb hts in_X9 hown hK.1 hP 2 rfl rfl 7 (by decide) (hts _ q824) (fun _ h9 => h9) rfl dX9_isSo_22 ?_
        refine lv_iload_n hx hb dX9_isSo_25 rfl (lv_at hl 2 rfl) ?_
        refine lv_iload hx hb dX9_isSo_26 (lv_at hl 5 rfl) ?_
        refine lv_iadd hx hb dX9_isSo_28 ?_
        obtain ⟨i_6, hw⟩ := hw
        refine z_lald hx hb hK.1 hP 0 1 rfl rfl i_6 dX9_isSo_29 (k := ((p2 + x5)).toNatClampNeg) rfl ?_
        refine lv_aload_n hx hb dX9_isSo_30 rfl (lv_at hl 0 rfl) ?_
        refine va_get (D := G.1) (ci := 9) (v := .ref h_s) (C := RX9) (T := TX9) (N := 14) hx hb hts in_X9 hown hK.1 hP 2 rfl rfl 0 (by decide) (hts _ q817) (fun _ h9 => h9) rfl dX9_isSo_31 ?_
        refine lv_iconst (v := (4 : Int32)) hx hb dX9_isSo_34 (by decide) ?_
        refine lv_iload_n hx hb dX9_isSo_35 rfl (lv_at hl 1 rfl) ?_
        refine lv_iadd hx hb dX9_isSo_36 ?_
        obtain ⟨i_7, hw⟩ := hw
        refine z_iald hx hb hK.1 hP 3 0 rfl rfl i_7 dX9_isSo_37 (k := (((4 : Int32) + p1)).toNatClampNeg) rfl ?_
        refine lv_i2l hx hb dX9_isSo_38 rfl ?_
        refine W.lcmp hx hb dX9_isSo_39 ?_
        refine lv_if_ne (tgt := 47) hx hb dX9_isSo_40 (by decide) (fun c_8 => ?_) (fun c_8 => ?_)
        · replace hw := hw.1 c_8
          refine lv_iconst (v := (0 : Int32)) hx hb dX9_isSo_47 (by decide) ?_
          refine lv_istore (lv' := [(4, .int (0 : Int32)), (0, .ref h), (1, .int p1), (2, .int p2), (3, .int p3), (5, .int x5)]) hx hb dX9_isSo_48 hl (by decide) rfl (fun ls hl => ?_)
          refine lv_iinc (v := (x5 + (1 : Int32))) (lv' := [(5, .int (x5 + (1 : Int32))), (4, .int (0 : Int32)), (0, .ref h), (1, .int p1), (2, .int p2), (3, .int p3)]) hx hb dX9_isSo_50 hl (k := 5) rfl rfl (by decide) rfl (fun ls hl => ?_)
          refine lv_goto (tgt := 6) hx hb dX9_isSo_53 (by decide) ?_
          exact ih u_5.1 u_5.2 (0 : Int32) (x5 + (1 : Int32)) H locs (hP.sub [2, 3, 0, 4, 1] rfl) (hD.sub [2, 3, 0, 4, 1] (by decide) rfl) hS ls (lv_sub hl [2, 3, 4, 5, 1, 0] rfl) hw
        · replace hw := hw.2 c_8
          refine lv_iconst (v := (1 : Int32)) hx hb dX9_isSo_43 (by decide) ?_
          refine lv_goto (tgt := 48) hx hb dX9_isSo_44 (by decide) ?_
          refine lv_istore (lv' := [(4, .int (1 : Int32)), (0, .ref h), (1, .int p1), (2, .int p2), (3, .int p3), (5, .int x5)]) hx hb dX9_isSo_48 hl (by decide) rfl (fun ls hl => ?_)
          refine lv_iinc (v := (x5 + (1 : Int32))) (lv' := [(5, .int (x5 + (1 : Int32))), (4, .int (1 : Int32)), (0, .ref h), (1, .int p1), (2, .int p2), (3, .int p3)]) hx hb dX9_isSo_50 hl (k := 5) rfl rfl (by decide) rfl (fun ls hl => ?_)
          refine lv_goto (tgt := 6) hx hb dX9_isSo_53 (by decide) ?_
          exact ih u_5.1 u_5.2 (1 : Int32) (x5 + (1 : Int32)) H locs (hP.sub [2, 3, 0, 4, 1] rfl) (hD.sub [2, 3, 0, 4, 1] (by decide) rfl) hS ls (lv_sub hl [2, 3, 4, 5, 1, 0] rfl) hw
def wp_X9_isSo (sv : Nat → Int32) (items : Nat → Int64) (less : Nat → Int32) (aside : Nat → Int32) (p1 : Int32) (p2 : Int32) (p3 : Int32) (Q : Int32 → ((Nat → Int32) × (Nat → Int32)) → Prop) : Prop :=
  (∃ j_ : Nat, wp_X9_isSo_6 items aside p1 p2 p3 Q  j_ sv less (1 : Int32) (0 : Int32))
set_option maxHeartbeats 4000000 in
theorem mt_X9_isSo (l : Launch) (G : GT) (h h_s h_images h_tape h_draft h_items h_moved h_sizes h_lanes h_less h_aside h_order : Nat) (sz : Nat) (kept : Int32) (typed : Int32) (atv : Int32) (sv : Nat → Int32) (items : Nat → Int64) (less : Nat → Int32) (aside : Nat → Int32) (p1 : Int32) (p2 : Int32) (p3 : Int32) (Q : Int32 → ((Nat → Int32) × (Nat → Int32)) → Prop) (hw : wp_X9_isSo sv items less aside p1 p2 p3 Q) : Met l yX9_isSo (ws_ yX9_isSo cX9_isSo 6 (some .boolean)) ({ frames := 5, cells := 0, slots := 0, locals := 113 } : Room) (va_Pc [.ref h, .int p1, .int p2, .int p3] (fun U => U.heap.size = sz ∧ va_P G.1 gCl [oc h 9 [.ref h_s, .ref h_images, .int kept, .ref h_tape, .int typed, .ref h_draft, .int atv, .ref h_items, .ref h_moved, .ref h_sizes, .ref h_lanes, .ref h_less, .ref h_aside, .ref h_order], ai G h_s 161 sv, al G h_items 96 items, ai G h_less 6 less, ai G h_aside 40 aside] U.heap ∧ gK G U ∧ va_D (fun _ => True) [oc h 9 [.ref h_s, .ref h_images, .int kept, .ref h_tape, .int typed, .ref h_draft, .int atv, .ref h_items, .ref h_moved, .ref h_sizes, .ref h_lanes, .ref h_less, .ref h_aside, .ref h_order], ai G h_s 161 sv, al G h_items 96 items, ai G h_less 6 less, ai G h_aside 40 aside])) ((fun A => (va_Qi (fun (r : Int32) (u : (Nat → Int32) × (Nat → Int32)) => Q r u) (fun u t => va_P G.1 gCl [oc h 9 [.ref h_s, .ref h_images, .int kept, .ref h_tape, .int typed, .ref h_draft, .int atv, .ref h_items, .ref h_moved, .ref h_sizes, .ref h_lanes, .ref h_less, .ref h_aside, .ref h_order], ai G h_s 161 u.1, al G h_items 96 items, ai G h_less 6 u.2, ai G h_aside 40 aside] t.heap ∧ va_D A [oc h 9 [.ref h_s, .ref h_images, .int kept, .ref h_tape, .int typed, .ref h_draft, .int atv, .ref h_items, .ref h_moved, .ref h_sizes, .ref h_lanes, .ref h_less, .ref h_aside, .ref h_order], ai G h_s 161 u.1, al G h_items 96 items, ai G h_less 6 u.2, ai G h_aside 40 aside]) A)) (va_A [oc h 9 [.ref h_s, .ref h_images, .int kept, .ref h_tape, .int typed, .ref h_draft, .int atv, .ref h_items, .ref h_moved, .ref h_sizes, .ref h_lanes, .ref h_less, .ref h_aside, .ref h_order], ai G h_s 161 sv, al G h_items 96 items, ai G h_less 6 less, ai G h_aside 40 aside] sz)) 0 0 (va_A [oc h 9 [.ref h_s, .ref h_images, .int kept, .ref h_tape, .int typed, .ref h_draft, .int atv, .ref h_items, .ref h_moved, .ref h_sizes, .ref h_lanes, .ref h_less, .ref h_aside, .ref h_order], ai G h_s 161 sv, al G h_items 96 items, ai G h_less 6 less, ai G h_aside 40 aside] sz) := by
  refine Met.ofW (cc := cX9_isSo) (maxL := 6) (ret := (some .boolean)) (by decide) rfl ?_
  intro p e s m args below meth c s₁ B hml hv
  obtain ⟨rfl, hsz, hP, hK, hD0⟩ := hv
  have hx := B.exec
  have hb := B.bytes
  have hr := B.returns
  have hts := atoms_spec (ws := (ws_ yX9_isSo cX9_isSo 6 (some .boolean))) B.pre
  have hts : ∀ w ∈ lw_all, w.before _ s = true := fun w h => hts w (List.mem_cons_of_mem _ h)
  have hown : s.vm.findClass RX9 = some m.cls := findClass_of_methodNamed B.named
  have hlocks := B.notSynchronized
  subst hsz
  have hD := hD0.self (sz := s.heap.size)
  generalize hAe : va_A [oc h 9 [.ref h_s, .ref h_images, .int kept, .ref h_tape, .int typed, .ref h_draft, .int atv, .ref h_items, .ref h_moved, .ref h_sizes, .ref h_lanes, .ref h_less, .ref h_aside, .ref h_order], ai G h_s 161 sv, al G h_items 96 items, ai G h_less 6 less, ai G h_aside 40 aside] s.heap.size = A at hD ⊢
  have hA : ∀ q : Nat, s.heap.size ≤ q → A q := fun q h => by rw [← hAe]; exact Or.inr h
  have hS : va_S A s.heap s.heap [] := va_S.rf
  have C : Cx p s m meth c cX9_isSo 6 (some .boolean) RX9 ([.ref h, .int p1, .int p2, .int p3] : List Value).toArray G A := ⟨hx, hb, hr, hlocks, hml, hown, hts, hK, hA⟩
  have hl := lv_entry ([.ref h, .int p1, .int p2, .int p3]) (n := 6) (Nat.le_of_ble_eq_true rfl)
  rw [lg_entry_eq]
  generalize (lg_sl ([.ref h, .int p1, .int p2, .int p3]) ++ List.replicate (6 - (lg_sl ([.ref h, .int p1, .int p2, .int p3])).length) Slot.unset).toArray = ls at hl ⊢
  have hl : lv_has ls 6 [(0, .ref h), (1, .int p1), (2, .int p2), (3, .int p3)] := hl
  unfold wp_X9_isSo at hw
  refine lv_iconst (v := (1 : Int32)) hx hb dX9_isSo_0 (by decide) ?_
  refine lv_istore (lv' := [(4, .int (1 : Int32)), (0, .ref h), (1, .int p1), (2, .int p2), (3, .int p3)]) hx hb dX9_isSo_1 hl (by decide) rfl (fun ls hl => ?_)
  refine lv_iconst (v := (0 : Int32)) hx hb dX9_isSo_3 (by decide) ?_
  refine lv_istore (lv' := [(5, .int (0 : Int32)), (4, .int (1 : Int32)), (0, .ref h), (1, .int p1), (2, .int p2), (3, .int p3)]) hx hb dX9_isSo_4 hl (by decide) rfl (fun ls hl => ?_)
  obtain ⟨j_, hw⟩ := hw
  exact wk_X9_isSo_6 h h_s h_images h_tape h_draft h_items h_moved h_sizes h_lanes h_less h_aside h_order kept typed atv items aside p1 p2 p3  Q  C  j_ sv less (1 : Int32) (0 : Int32) s.heap [] hP hD hS ls (lv_sub hl [2, 3, 4, 5, 1, 0] rfl) hw
