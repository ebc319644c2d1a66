set_option maxRecDepth 100000
/-! BattleBench.copy(IIIII)I -/
def wp_X0_copy_BB (rn : Nat) (rw : Nat → Int32) (rn2 : Nat) (rw2 : Nat → Int32) (p1 : Int32) (p2 : Int32) (p3 : Int32) (p4 : Int32) (p5 : Int32) (Q : Int32 → ((Nat → Int32)) → Prop) : Prop :=
  wp_X0_isSheet  p1 (0 : Int32) (fun r_1 => (((r_1 = 0) → Q (-1 : Int32) rw2) ∧ (¬ (r_1 = 0) → wp_X0_isSheet  p3 (0 : Int32) (fun r_3 => ((¬ (r_3 = 0) → (vp_in p1 4 ∧ (vp_in p3 4 ∧ ((cpOk p2 p4 p5 rn rn2 → ((∀ i, i < p5.toNatClampNeg → fits .byte (.int (rw (p2.toNatClampNeg + i))) = true) ∧ ∀ f_9 : Nat → Int32, f_9 = va_cpy rw rw2 p2.toNatClampNeg p4.toNatClampNeg p5.toNatClampNeg → Q p5 f_9)) ∧ (¬ cpOk p2 p4 p5 rn rn2 → (rn < 2147483648 ∧ rn2 < 2147483648 ∧ Q (-13 : Int32) rw2)))))) ∧ ((r_3 = 0) → Q (-1 : Int32) rw2))))))
set_option maxHeartbeats 4000000 in
theorem mt_X0_copy_BB (l : Launch) (G : GT) (aS : Nat) (hfl : l.flags = pinnedFlags ++ [noTraceFlag]) (h h_kinds h_now h_fault h_tape h_got h_failing h_past h_aside h_best h_tried h_kept h_keptPast h_sheets h_sheets_x h_sheets_x_r h_sheets_y h_sheets_y_r : Nat) (shf : Nat → Option Nat) (sz : Nat) (taped : Int32) (reads : Int32) (undoMany : Int32) (keptMany : Int32) (isKept : Int32) (rn : Nat) (rw : Nat → Int32) (rn2 : Nat) (rw2 : Nat → Int32) (p1 : Int32) (p2 : Int32) (p3 : Int32) (p4 : Int32) (p5 : Int32)(hsh : shf p1.toNatClampNeg = some h_sheets_x) (hsh2 : shf p3.toNatClampNeg = some h_sheets_y) (Q : Int32 → ((Nat → Int32)) → Prop) (hw : wp_X0_copy_BB rn rw rn2 rw2 p1 p2 p3 p4 p5 Q) : Met l yX0_copy (wsW_ yX0_copy cX0_copy 7 (some .int) [(18, 44, 47, 354), (18, 44, 52, 360), (18, 44, 57, 362)]) ({ frames := 9, cells := 3, slots := 1010, locals := 10248 } : Room) (va_Pc [.ref h, .int p1, .int p2, .int p3, .int p4, .int p5] (fun U => U.heap.size = sz ∧ va_P G.1 gCl [oc h 0 [.ref h_kinds, .ref h_now, .ref h_fault, .ref h_tape, .int taped, .int reads, .ref h_got, .ref h_failing, .ref h_past, .int undoMany, .ref h_aside, .ref h_best, .ref h_tried, .ref h_kept, .ref h_keptPast, .int keptMany, .int isKept, .ref h_sheets], arf G h_sheets 7 4 shf, oc h_sheets_x 8 [.ref h_sheets_x_r], ay G h_sheets_x_r rn rw, oc h_sheets_y 8 [.ref h_sheets_y_r], ay G h_sheets_y_r rn2 rw2] U.heap ∧ gK G U ∧ va_D (fun _ => True) [oc h 0 [.ref h_kinds, .ref h_now, .ref h_fault, .ref h_tape, .int taped, .int reads, .ref h_got, .ref h_failing, .ref h_past, .int undoMany, .ref h_aside, .ref h_best, .ref h_tried, .ref h_kept, .ref h_keptPast, .int keptMany, .int isKept, .ref h_sheets], arf G h_sheets 7 4 shf, oc h_sheets_x 8 [.ref h_sheets_x_r], ay G h_sheets_x_r rn rw, oc h_sheets_y 8 [.ref h_sheets_y_r], ay G h_sheets_y_r rn2 rw2] ∧ stS aS U)) ((fun A => (va_Qi (fun (r : Int32) (u : (Nat → Int32)) => Q r u) (fun u t => va_P G.1 gCl [oc h 0 [.ref h_kinds, .ref h_now, .ref h_fault, .ref h_tape, .int taped, .int reads, .ref h_got, .ref h_failing, .ref h_past, .int undoMany, .ref h_aside, .ref h_best, .ref h_tried, .ref h_kept, .ref h_keptPast, .int keptMany, .int isKept, .ref h_sheets], arf G h_sheets 7 4 shf, oc h_sheets_x 8 [.ref h_sheets_x_r], ay G h_sheets_x_r rn rw, oc h_sheets_y 8 [.ref h_sheets_y_r], ay G h_sheets_y_r rn2 u] t.heap ∧ va_D A [oc h 0 [.ref h_kinds, .ref h_now, .ref h_fault, .ref h_tape, .int taped, .int reads, .ref h_got, .ref h_failing, .ref h_past, .int undoMany, .ref h_aside, .ref h_best, .ref h_tried, .ref h_kept, .ref h_keptPast, .int keptMany, .int isKept, .ref h_sheets], arf G h_sheets 7 4 shf, oc h_sheets_x 8 [.ref h_sheets_x_r], ay G h_sheets_x_r rn rw, oc h_sheets_y 8 [.ref h_sheets_y_r], ay G h_sheets_y_r rn2 u]) A)) (va_A [oc h 0 [.ref h_kinds, .ref h_now, .ref h_fault, .ref h_tape, .int taped, .int reads, .ref h_got, .ref h_failing, .ref h_past, .int undoMany, .ref h_aside, .ref h_best, .ref h_tried, .ref h_kept, .ref h_keptPast, .int keptMany, .int isKept, .ref h_sheets], arf G h_sheets 7 4 shf, oc h_sheets_x 8 [.ref h_sheets_x_r], ay G h_sheets_x_r rn rw, oc h_sheets_y 8 [.ref h_sheets_y_r], ay G h_sheets_y_r rn2 rw2] sz)) 3 1010 (va_A [oc h 0 [.ref h_kinds, .ref h_now, .ref h_fault, .ref h_tape, .int taped, .int reads, .ref h_got, .ref h_failing, .ref h_past, .int undoMany, .ref h_aside, .ref h_best, .ref h_tried, .ref h_kept, .ref h_keptPast, .int keptMany, .int isKept, .ref h_sheets], arf G h_sheets 7 4 shf, oc h_sheets_x 8 [.ref h_sheets_x_r], ay G h_sheets_x_r rn rw, oc h_sheets_y 8 [.ref h_sheets_y_r], ay G h_sheets_y_r rn2 rw2] sz) := by
  refine va_MetW (hh := [(18, 44, 47, 354), (18, 44, 52, 360), (18, 44, 57, 362)]) (cc := cX0_copy) (maxL := 7) (ret := (some .int)) (by decide) rfl ?_
  intro p e s m args below meth c s₁ B hml hv
  obtain ⟨rfl, hsz, hP, hK, hD0, hst⟩ := hv
  have hx := B.exec
  have hb := B.bytes
  have hr := B.returns
  have hts := atoms_spec (ws := (wsW_ yX0_copy cX0_copy 7 (some .int) [(18, 44, 47, 354), (18, 44, 52, 360), (18, 44, 57, 362)])) B.pre
  have hts : ∀ w ∈ lw_all, w.before _ s = true := fun w h => hts w (List.mem_cons_of_mem _ h)
  have hown : s.vm.findClass RX0 = some m.cls := findClass_of_methodNamed B.named
  have hlocks := B.notSynchronized
  have hhd : c.exceptionTable.toList = [⟨18, 44, 47, 354⟩, ⟨18, 44, 52, 360⟩, ⟨18, 44, 57, 362⟩] := x_hand B (atoms_spec (ws := (wsW_ yX0_copy cX0_copy 7 (some .int) [(18, 44, 47, 354), (18, 44, 52, 360), (18, 44, 57, 362)])) B.pre _ List.mem_cons_self)
  subst hsz
  have hD := hD0.self (sz := s.heap.size)
  generalize hAe : va_A [oc h 0 [.ref h_kinds, .ref h_now, .ref h_fault, .ref h_tape, .int taped, .int reads, .ref h_got, .ref h_failing, .ref h_past, .int undoMany, .ref h_aside, .ref h_best, .ref h_tried, .ref h_kept, .ref h_keptPast, .int keptMany, .int isKept, .ref h_sheets], arf G h_sheets 7 4 shf, oc h_sheets_x 8 [.ref h_sheets_x_r], ay G h_sheets_x_r rn rw, oc h_sheets_y 8 [.ref h_sheets_y_r], ay G h_sheets_y_r rn2 rw2] s.heap.size = A at hD ⊢
  have hA : ∀ q : Nat, s.heap.size ≤ q → A q := fun q h => by rw [← hAe]; exact Or.inr h
  have hS : va_S A s.heap s.heap [] := va_S.rf
  have hX : XCx l aS s A := ⟨hfl, hst, fun q cell hq hc => va_A.ns hP (by rw [hAe]; exact hq) hc⟩
  have C : Cx p s m meth c cX0_copy 7 (some .int) RX0 ([.ref h, .int p1, .int p2, .int p3, .int p4, .int p5] : List Value).toArray G A := ⟨hx, hb, hr, hlocks, hml, hown, hts, hK, hA⟩
  have hl := lv_entry ([.ref h, .int p1, .int p2, .int p3, .int p4, .int p5]) (n := 7) (Nat.le_of_ble_eq_true rfl)
  rw [lg_entry_eq]
  generalize (lg_sl ([.ref h, .int p1, .int p2, .int p3, .int p4, .int p5]) ++ List.replicate (7 - (lg_sl ([.ref h, .int p1, .int p2, .int p3, .int p4, .int p5])).length) Slot.unset).toArray = ls at hl ⊢
  have hl : lv_has ls 7 [(0, .ref h), (1, .int p1), (2, .int p2), (3, .int p3), (4, .int p4), (5, .int p5)] := hl
  unfold wp_X0_copy_BB at hw
  refine lv_iload_n hx hb dX0_copy_0 rfl (lv_at hl 1 rfl) ?_
  refine lv_iconst (v := (0 : Int32)) hx hb dX0_copy_1 (by decide) ?_
  have hPc := hP.sub (ws' := []) [] rfl
  have hDc := hD.sub (ws' := []) [] (by decide) rfl
  have hFc := va_free (wc := []) hD hS hA [] rfl
  refine va_calli (va_runS (As := [.int p1, .int (0 : Int32)]) (rest := []) ⟨hx, hb, hml, hown, hts⟩ (mt_X0_isSheet l G  s.heap.size  p1 (0 : Int32) _ hw) (va_cwS 2 hts (lw_S q648 q649 q54 q650) rfl rfl rfl (by decide +kernel) ⟨Nat.le_of_ble_eq_true rfl, Nat.le_of_ble_eq_true rfl⟩) ⟨fun a U g mk q => by obtain ⟨q0, q1, qP, qK, qD⟩ := q; exact ⟨q0, q1, qP, qK.call, qD⟩, fun U hU hW => ⟨rfl, by rw [hU], by rw [hU]; exact hPc, hK.warm hW, hDc.weaken (fun _ _ _ _ => trivial)⟩⟩ rfl rfl hl.1 rfl (lv_room (Nat.le_of_ble_eq_true rfl)) dX0_copy_2 ⟨Nat.le_of_ble_eq_true rfl, Nat.le_of_ble_eq_true rfl⟩) hS (fun q _ h => hFc q h) hFc (fun r_1 _ t H1 locs ht hvm hw hB hz1 hk1 hS => ?_)
  obtain ⟨hP1, hD1⟩ := hB
  rw [ht] at hP1
  obtain ⟨hP, hD⟩ := va_join (wr := [oc h 0 [.ref h_kinds, .ref h_now, .ref h_fault, .ref h_tape, .int taped, .int reads, .ref h_got, .ref h_failing, .ref h_past, .int undoMany, .ref h_aside, .ref h_best, .ref h_tried, .ref h_kept, .ref h_keptPast, .int keptMany, .int isKept, .ref h_sheets], arf G h_sheets 7 4 shf, oc h_sheets_x 8 [.ref h_sheets_x_r], ay G h_sheets_x_r rn rw, oc h_sheets_y 8 [.ref h_sheets_y_r], ay G h_sheets_y_r rn2 rw2]) (w1 := []) hP hD [] [0, 1, 2, 3, 4, 5] rfl rfl (by decide) (by decide) hk1 hFc hP1 hD1
  clear hPc hDc hFc hP1 hD1 hz1 hk1 hvm
  generalize H1 = H at hP hS ⊢
  have hP : va_P G.1 gCl [oc h 0 [.ref h_kinds, .ref h_now, .ref h_fault, .ref h_tape, .int taped, .int reads, .ref h_got, .ref h_failing, .ref h_past, .int undoMany, .ref h_aside, .ref h_best, .ref h_tried, .ref h_kept, .ref h_keptPast, .int keptMany, .int isKept, .ref h_sheets], arf G h_sheets 7 4 shf, oc h_sheets_x 8 [.ref h_sheets_x_r], ay G h_sheets_x_r rn rw, oc h_sheets_y 8 [.ref h_sheets_y_r], ay G h_sheets_y_r rn2 rw2] H := hP
  have hD : va_D A [oc h 0 [.ref h_kinds, .ref h_now, .ref h_fault, .ref h_tape, .int taped, .int reads, .ref h_got, .ref h_failing, .ref h_past, .int undoMany, .ref h_aside, .ref h_best, .ref h_tried, .ref h_kept, .ref h_keptPast, .int keptMany, .int isKept, .ref h_sheets], arf G h_sheets 7 4 shf, oc h_sheets_x 8 [.ref h_sheets_x_r], ay G h_sheets_x_r rn rw, oc h_sheets_y 8 [.ref h_sheets_y_r], ay G h_sheets_y_r rn2 rw2] := hD
  refine lv_if_eq (tgt := 16) hx hb dX0_copy_5 (by decide) (fun c_2 => ?_) (fun c_2 => ?_)
  · replace hw := hw.1 c_2
    refine lv_iconst (v := (-1 : Int32)) hx hb dX0_copy_16 (by decide) ?_
    have hP9 := hP
    have hD9 := hD
    exact w_widen (k := 3) (n := 1010) (by first | exact Nat.le_of_ble_eq_true rfl | omega) (by first | exact Nat.le_of_ble_eq_true rfl | omega) (W.iret (v := (-1 : Int32)) hx hb hr (fun t ht hW => ⟨⟨(-1 : Int32), rw2, rfl, hw, by rw [ht]; exact hP9, hD9⟩, hS.F ht⟩) hS.2.2 dX0_copy_17)
  · replace hw := hw.2 c_2
    refine lv_iload_n hx hb dX0_copy_8 rfl (lv_at hl 3 rfl) ?_
    refine lv_iconst (v := (0 : Int32)) hx hb dX0_copy_9 (by decide) ?_
    have hPc := hP.sub (ws' := []) [] rfl
    have hDc := hD.sub (ws' := []) [] (by decide) rfl
    have hFc := va_free (wc := []) hD hS hA [] rfl
    refine va_calli (va_runS (As := [.int p3, .int (0 : Int32)]) (rest := []) ⟨hx, hb, hml, hown, hts⟩ (mt_X0_isSheet l G  H.size  p3 (0 : Int32) _ hw) (va_cwS 2 hts (lw_S q648 q649 q54 q650) rfl rfl rfl (by decide +kernel) ⟨Nat.le_of_ble_eq_true rfl, Nat.le_of_ble_eq_true rfl⟩) ⟨fun a U g mk q => by obtain ⟨q0, q1, qP, qK, qD⟩ := q; exact ⟨q0, q1, qP, qK.call, qD⟩, fun U hU hW => ⟨rfl, by rw [hU], by rw [hU]; exact hPc, hK.warm hW, hDc.weaken (fun _ _ _ _ => trivial)⟩⟩ rfl rfl hl.1 rfl (lv_room (Nat.le_of_ble_eq_true rfl)) dX0_copy_10 ⟨Nat.le_of_ble_eq_true rfl, Nat.le_of_ble_eq_true rfl⟩) hS (fun q _ h => hFc q h) hFc (fun r_3 _ t H1 locs ht hvm hw hB hz1 hk1 hS => ?_)
    obtain ⟨hP1, hD1⟩ := hB
    rw [ht] at hP1
    obtain ⟨hP, hD⟩ := va_join (wr := [oc h 0 [.ref h_kinds, .ref h_now, .ref h_fault, .ref h_tape, .int taped, .int reads, .ref h_got, .ref h_failing, .ref h_past, .int undoMany, .ref h_aside, .ref h_best, .ref h_tried, .ref h_kept, .ref h_keptPast, .int keptMany, .int isKept, .ref h_sheets], arf G h_sheets 7 4 shf, oc h_sheets_x 8 [.ref h_sheets_x_r], ay G h_sheets_x_r rn rw, oc h_sheets_y 8 [.ref h_sheets_y_r], ay G h_sheets_y_r rn2 rw2]) (w1 := []) hP hD [] [0, 1, 2, 3, 4, 5] rfl rfl (by decide) (by decide) hk1 hFc hP1 hD1
    clear hPc hDc hFc hP1 hD1 hz1 hk1 hvm
    generalize H1 = H at hP hS ⊢
    have hP : va_P G.1 gCl [oc h 0 [.ref h_kinds, .ref h_now, .ref h_fault, .ref h_tape, .int taped, .int reads, .ref h_got, .ref h_failing, .ref h_past, .int undoMany, .ref h_aside, .ref h_best, .ref h_tried, .ref h_kept, .ref h_keptPast, .int keptMany, .int isKept, .ref h_sheets], arf G h_sheets 7 4 shf, oc h_sheets_x 8 [.ref h_sheets_x_r], ay G h_sheets_x_r rn rw, oc h_sheets_y 8 [.ref h_sheets_y_r], ay G h_sheets_y_r rn2 rw2] H := hP
    have hD : va_D A [oc h 0 [.ref h_kinds, .ref h_now, .ref h_fault, .ref h_tape, .int taped, .int reads, .ref h_got, .ref h_failing, .ref h_past, .int undoMany, .ref h_aside, .ref h_best, .ref h_tried, .ref h_kept, .ref h_keptPast, .int keptMany, .int isKept, .ref h_sheets], arf G h_sheets 7 4 shf, oc h_sheets_x 8 [.ref h_sheets_x_r], ay G h_sheets_x_r rn rw, oc h_sheets_y 8 [.ref h_sheets_y_r], ay G h_sheets_y_r rn2 rw2] := hD
    refine lv_if_ne (tgt := 18) hx hb dX0_copy_13 (by decide) (fun c_4 => ?_) (fun c_4 => ?_)
    · replace hw := hw.1 c_4
      refine lv_aload_n hx hb dX0_copy_18 rfl (lv_at hl 0 rfl) ?_
      refine va_get (D := G.1) (ci := 0) (v := .ref h_sheets) (C := RX0) (T := TX0) (N := 18) hx hb hts in_X0 hown hK.1 hP 0 rfl rfl 17 (by decide) (hts _ q273) (fun _ h9 => h9) rfl dX0_copy_19 ?_
      refine lv_iload_n hx hb dX0_copy_22 rfl (lv_at hl 1 rfl) ?_
      obtain ⟨i_5, hw⟩ := hw
      refine z_aaldS hx hb hK.1 hP 1 7 rfl rfl i_5 dX0_copy_23 hsh ?_
      refine va_getN (D := G.1) (ci := 8) (v := .ref h_sheets_x_r) (C := RX8) (T := TX8) (N := 1) hx hb hts in_X8 hown hK.1 hP 2 rfl rfl 0 (by decide) (hK.n q251 rfl) (fun _ h9 => h9) rfl dX0_copy_24 ?_
      refine lv_iload_n hx hb dX0_copy_27 rfl (lv_at hl 2 rfl) ?_
      refine lv_aload_n hx hb dX0_copy_28 rfl (lv_at hl 0 rfl) ?_
      refine va_get (D := G.1) (ci := 0) (v := .ref h_sheets) (C := RX0) (T := TX0) (N := 18) hx hb hts in_X0 hown hK.1 hP 0 rfl rfl 17 (by decide) (hts _ q273) (fun _ h9 => h9) rfl dX0_copy_29 ?_
      refine lv_iload_n hx hb dX0_copy_32 rfl (lv_at hl 3 rfl) ?_
      obtain ⟨i_6, hw⟩ := hw
      refine z_aaldS hx hb hK.1 hP 1 7 rfl rfl i_6 dX0_copy_33 hsh2 ?_
      refine va_getN (D := G.1) (ci := 8) (v := .ref h_sheets_y_r) (C := RX8) (T := TX8) (N := 1) hx hb hts in_X8 hown hK.1 hP 4 rfl rfl 0 (by decide) (hK.n q251 rfl) (fun _ h9 => h9) rfl dX0_copy_34 ?_
      refine lv_iload hx hb dX0_copy_37 (lv_at hl 4 rfl) ?_
      refine lv_iload hx hb dX0_copy_39 (lv_at hl 5 rfl) ?_
      by_cases c_8 : cpOk p2 p4 p5 rn rn2
      · replace hw := hw.1 c_8
        obtain ⟨i_10, hw⟩ := hw
        refine z_cpI hx hb (hml.trans hl.1.symm) hown (hts _ q512) (hts _ q440) (hts _ q439) (hts _ q68) hK.1 hP hD hS 3 5 3 rfl rfl rfl rfl rfl c_8 i_10 (Nat.le_of_ble_eq_true rfl) (Nat.le_of_ble_eq_true rfl) dX0_copy_41 (fun f_9 ef_9 H locs hP hD hS => ?_)
        replace hw := hw f_9 ef_9
        have hP : va_P G.1 gCl [oc h 0 [.ref h_kinds, .ref h_now, .ref h_fault, .ref h_tape, .int taped, .int reads, .ref h_got, .ref h_failing, .ref h_past, .int undoMany, .ref h_aside, .ref h_best, .ref h_tried, .ref h_kept, .ref h_keptPast, .int keptMany, .int isKept, .ref h_sheets], arf G h_sheets 7 4 shf, oc h_sheets_x 8 [.ref h_sheets_x_r], ay G h_sheets_x_r rn rw, oc h_sheets_y 8 [.ref h_sheets_y_r], ay G h_sheets_y_r rn2 f_9] H := hP
        have hD : va_D A [oc h 0 [.ref h_kinds, .ref h_now, .ref h_fault, .ref h_tape, .int taped, .int reads, .ref h_got, .ref h_failing, .ref h_past, .int undoMany, .ref h_aside, .ref h_best, .ref h_tried, .ref h_kept, .ref h_keptPast, .int keptMany, .int isKept, .ref h_sheets], arf G h_sheets 7 4 shf, oc h_sheets_x 8 [.ref h_sheets_x_r], ay G h_sheets_x_r rn rw, oc h_sheets_y 8 [.ref h_sheets_y_r], ay G h_sheets_y_r rn2 f_9] := hD
        refine lv_goto (tgt := 62) hx hb dX0_copy_44 (by decide) ?_
        refine lv_iload hx hb dX0_copy_62 (lv_at hl 5 rfl) ?_
        have hP9 := hP
        have hD9 := hD
        exact w_widen (k := 3) (n := 1010) (by first | exact Nat.le_of_ble_eq_true rfl | omega) (by first | exact Nat.le_of_ble_eq_true rfl | omega) (W.iret (v := p5) hx hb hr (fun t ht hW => ⟨⟨p5, f_9, rfl, hw, by rw [ht]; exact hP9, hD9⟩, hS.F ht⟩) hS.2.2 dX0_copy_64)
      · obtain ⟨h31, h32, hw⟩ := hw.2 c_8
        refine w_cpOut (rest := []) ⟨hx, hb, hml.trans hl.1.symm, hts, hK, hX, hS, hP, hown, hts _ q512, hts _ q440, hts _ q439, hts _ q68, dX0_copy_41, Nat.le_of_ble_eq_true rfl, Nat.le_of_ble_eq_true rfl, Nat.le_of_ble_eq_true rfl, Nat.le_of_ble_eq_true rfl, Nat.le_of_ble_eq_true rfl⟩ 3 5 3 3 rfl rfl rfl rfl h31 h32 c_8 (fun x_7 H hxo hP hS hz hk => ?_)
        obtain ⟨ce, hce, hcv, hcc⟩ := hxo
        obtain ⟨c1, cT, hc1, hcT, hfit⟩ := Cond.castable_spec (args := #[]) (hK.n (args := #[]) q1127 rfl)
        cases hc1.symm.trans hcc
        refine wx_catch (cell := ce) hce (by rw [hcv]; rfl) [⟨18, 44, 47, 354⟩, ⟨18, 44, 52, 360⟩] ⟨18, 44, 57, 362⟩ [] hhd (fun pl hpl z hz => (List.forall_mem_cons.mpr ⟨x_pass (z := ⟨18, 44, 47, 354⟩) (by decide) (by decide) hown (hts _ q734) (hK.2.2 ("java/lang/ArrayIndexOutOfBoundsException", "java/lang/NullPointerException") (by decide +kernel)) hcc pl hpl, (List.forall_mem_cons.mpr ⟨x_pass (z := ⟨18, 44, 52, 360⟩) (by decide) (by decide) hown (hts _ q796) (hK.2.2 ("java/lang/ArrayIndexOutOfBoundsException", "java/lang/ArrayStoreException") (by decide +kernel)) hcc pl hpl, fun _ h9 => absurd h9 List.not_mem_nil⟩)⟩) z hz) (by decide) (by decide) hown (hts _ q810) (cT := cT) hcT hfit ?_
        refine lv_astore (lv' := [(6, .ref x_7), (0, .ref h), (1, .int p1), (2, .int p2), (3, .int p3), (4, .int p4), (5, .int p5)]) hx hb dX0_copy_57 hl (by decide) rfl (fun ls hl => ?_)
        refine lv_bipush (v := (-13 : Int32)) hx hb dX0_copy_59 (by decide) ?_
        have hP9 := hP
        have hD9 := hD
        exact w_widen (k := 3) (n := 1010) (by first | exact Nat.le_of_ble_eq_true rfl | omega) (by first | exact Nat.le_of_ble_eq_true rfl | omega) (W.iret (v := (-13 : Int32)) hx hb hr (fun t ht hW => ⟨⟨(-13 : Int32), rw2, rfl, hw, by rw [ht]; exact hP9, hD9⟩, hS.F ht⟩) hS.2.2 dX0_copy_61)
    · replace hw := hw.2 c_4
      refine lv_iconst (v := (-1 : Int32)) hx hb dX0_copy_16 (by decide) ?_
      have hP9 := hP
      have hD9 := hD
      exact w_widen (k := 3) (n := 1010) (by first | exact Nat.le_of_ble_eq_true rfl | omega) (by first | exact Nat.le_of_ble_eq_true rfl | omega) (W.iret (v := (-1 : Int32)) hx hb hr (fun t ht hW => ⟨⟨(-1 : Int32), rw2, rfl, hw, by rw [ht]; exact hP9, hD9⟩, hS.F ht⟩) hS.2.2 dX0_copy_17)
/-! BattleBench.copy(IIIII)I -/
def wp_X0_copy_BS (rn : Nat) (rw : Nat → Int32) (rn2 : Nat) (rw2 : Nat → Int32) (p1 : Int32) (p2 : Int32) (p3 : Int32) (p4 : Int32) (p5 : Int32) (Q : Int32 → Prop) : Prop :=
  wp_X0_isSheet  p1 (0 : Int32) (fun r_1 => (((r_1 = 0) → Q (-1 : Int32)) ∧ (¬ (r_1 = 0) → wp_X0_isSheet  p3 (0 : Int32) (fun r_3 => ((¬ (r_3 = 0) → (vp_in p1 4 ∧ (vp_in p3 4 ∧ Q (-12 : Int32)))) ∧ ((r_3 = 0) → Q (-1 : Int32)))))))
set_option maxHeartbeats 4000000 in
theorem mt_X0_copy_BS (l : Launch) (G : GT) (aS : Nat) (hfl : l.flags = pinnedFlags ++ [noTraceFlag]) (h h_kinds h_now h_fault h_tape h_got h_failing h_past h_aside h_best h_tried h_kept h_keptPast h_sheets h_sheets_x h_sheets_x_r h_sheets_y h_sheets_y_r : Nat) (shf : Nat → Option Nat) (sz : Nat) (taped : Int32) (reads : Int32) (undoMany : Int32) (keptMany : Int32) (isKept : Int32) (rn : Nat) (rw : Nat → Int32) (rn2 : Nat) (rw2 : Nat → Int32) (p1 : Int32) (p2 : Int32) (p3 : Int32) (p4 : Int32) (p5 : Int32)(hsh : shf p1.toNatClampNeg = some h_sheets_x) (hsh2 : shf p3.toNatClampNeg = some h_sheets_y) (Q : Int32 → Prop) (hw : wp_X0_copy_BS rn rw rn2 rw2 p1 p2 p3 p4 p5 Q) : Met l yX0_copy (wsW_ yX0_copy cX0_copy 7 (some .int) [(18, 44, 47, 354), (18, 44, 52, 360), (18, 44, 57, 362)]) ({ frames := 9, cells := 3, slots := 1010, locals := 10248 } : Room) (va_Pc [.ref h, .int p1, .int p2, .int p3, .int p4, .int p5] (fun U => U.heap.size = sz ∧ va_P G.1 gCl [oc h 0 [.ref h_kinds, .ref h_now, .ref h_fault, .ref h_tape, .int taped, .int reads, .ref h_got, .ref h_failing, .ref h_past, .int undoMany, .ref h_aside, .ref h_best, .ref h_tried, .ref h_kept, .ref h_keptPast, .int keptMany, .int isKept, .ref h_sheets], arf G h_sheets 7 4 shf, oc h_sheets_x 8 [.ref h_sheets_x_r], ay G h_sheets_x_r rn rw, oc h_sheets_y 8 [.ref h_sheets_y_r], ah G h_sheets_y_r rn2 rw2] U.heap ∧ gK G U ∧ va_D (fun _ => True) [oc h 0 [.ref h_kinds, .ref h_now, .ref h_fault, .ref h_tape, .int taped, .int reads, .ref h_got, .ref h_failing, .ref h_past, .int undoMany, .ref h_aside, .ref h_best, .ref h_tried, .ref h_kept, .ref h_keptPast, .int keptMany, .int isKept, .ref h_sheets], arf G h_sheets 7 4 shf, oc h_sheets_x 8 [.ref h_sheets_x_r], ay G h_sheets_x_r rn rw, oc h_sheets_y 8 [.ref h_sheets_y_r], ah G h_sheets_y_r rn2 rw2] ∧ stS aS U)) ((fun A => (va_Qi (fun (r : Int32) (u : Unit) => Q r ) (fun u t => va_P G.1 gCl [oc h 0 [.ref h_kinds, .ref h_now, .ref h_fault, .ref h_tape, .int taped, .int reads, .ref h_got, .ref h_failing, .ref h_past, .int undoMany, .ref h_aside, .ref h_best, .ref h_tried, .ref h_kept, .ref h_keptPast, .int keptMany, .int isKept, .ref h_sheets], arf G h_sheets 7 4 shf, oc h_sheets_x 8 [.ref h_sheets_x_r], ay G h_sheets_x_r rn rw, oc h_sheets_y 8 [.ref h_sheets_y_r], ah G h_sheets_y_r rn2 rw2] t.heap ∧ va_D A [oc h 0 [.ref h_kinds, .ref h_now, .ref h_fault, .ref h_tape, .int taped, .int reads, .ref h_got, .ref h_failing, .ref h_past, .int undoMany, .ref h_aside, .ref h_best, .ref h_tried, .ref h_kept, .ref h_keptPast, .int keptMany, .int isKept, .ref h_sheets], arf G h_sheets 7 4 shf, oc h_sheets_x 8 [.ref h_sheets_x_r], ay G h_sheets_x_r rn rw, oc h_sheets_y 8 [.ref h_sheets_y_r], ah G h_sheets_y_r rn2 rw2]) A)) (va_A [oc h 0 [.ref h_kinds, .ref h_now, .ref h_fault, .ref h_tape, .int taped, .int reads, .ref h_got, .ref h_failing, .ref h_past, .int undoMany, .ref h_aside, .ref h_best, .ref h_tried, .ref h_kept, .ref h_keptPast, .int keptMany, .int isKept, .ref h_sheets], arf G h_sheets 7 4 shf, oc h_sheets_x 8 [.ref h_sheets_x_r], ay G h_sheets_x_r rn rw, oc h_sheets_y 8 [.ref h_sheets_y_r], ah G h_sheets_y_r rn2 rw2] sz)) 3 1010 (va_A [oc h 0 [.ref h_kinds, .ref h_now, .ref h_fault, .ref h_tape, .int taped, .int reads, .ref h_got, .ref h_failing, .ref h_past, .int undoMany, .ref h_aside, .ref h_best, .ref h_tried, .ref h_kept, .ref h_keptPast, .int keptMany, .int isKept, .ref h_sheets], arf G h_sheets 7 4 shf, oc h_sheets_x 8 [.ref h_sheets_x_r], ay G h_sheets_x_r rn rw, oc h_sheets_y 8 [.ref h_sheets_y_r], ah G h_sheets_y_r rn2 rw2] sz) := by
  refine va_MetW (hh := [(18, 44, 47, 354), (18, 44, 52, 360), (18, 44, 57, 362)]) (cc := cX0_copy) (maxL := 7) (ret := (some .int)) (by decide) rfl ?_
  intro p e s m args below meth c s₁ B hml hv
  obtain ⟨rfl, hsz, hP, hK, hD0, hst⟩ := hv
  have hx := B.exec
  have hb := B.bytes
  have hr := B.returns
  have hts := atoms_spec (ws := (wsW_ yX0_copy cX0_copy 7 (some .int) [(18, 44, 47, 354), (18, 44, 52, 360), (18, 44, 57, 362)])) B.pre
  have hts : ∀ w ∈ lw_all, w.before _ s = true := fun w h => hts w (List.mem_cons_of_mem _ h)
  have hown : s.vm.findClass RX0 = some m.cls := findClass_of_methodNamed B.named
  have hlocks := B.notSynchronized
  have hhd : c.exceptionTable.toList = [⟨18, 44, 47, 354⟩, ⟨18, 44, 52, 360⟩, ⟨18, 44, 57, 362⟩] := x_hand B (atoms_spec (ws := (wsW_ yX0_copy cX0_copy 7 (some .int) [(18, 44, 47, 354), (18, 44, 52, 360), (18, 44, 57, 362)])) B.pre _ List.mem_cons_self)
  subst hsz
  have hD := hD0.self (sz := s.heap.size)
  generalize hAe : va_A [oc h 0 [.ref h_kinds, .ref h_now, .ref h_fault, .ref h_tape, .int taped, .int reads, .ref h_got, .ref h_failing, .ref h_past, .int undoMany, .ref h_aside, .ref h_best, .ref h_tried, .ref h_kept, .ref h_keptPast, .int keptMany, .int isKept, .ref h_sheets], arf G h_sheets 7 4 shf, oc h_sheets_x 8 [.ref h_sheets_x_r], ay G h_sheets_x_r rn rw, oc h_sheets_y 8 [.ref h_sheets_y_r], ah G h_sheets_y_r rn2 rw2] s.heap.size = A at hD ⊢
  have hA : ∀ q : Nat, s.heap.size ≤ q → A q := fun q h => by rw [← hAe]; exact Or.inr h
  have hS : va_S A s.heap s.heap [] := va_S.rf
  have hX : XCx l aS s A := ⟨hfl, hst, fun q cell hq hc => va_A.ns hP (by rw [hAe]; exact hq) hc⟩
  have C : Cx p s m meth c cX0_copy 7 (some .int) RX0 ([.ref h, .int p1, .int p2, .int p3, .int p4, .int p5] : List Value).toArray G A := ⟨hx, hb, hr, hlocks, hml, hown, hts, hK, hA⟩
  have hl := lv_entry ([.ref h, .int p1, .int p2, .int p3, .int p4, .int p5]) (n := 7) (Nat.le_of_ble_eq_true rfl)
  rw [lg_entry_eq]
  generalize (lg_sl ([.ref h, .int p1, .int p2, .int p3, .int p4, .int p5]) ++ List.replicate (7 - (lg_sl ([.ref h, .int p1, .int p2, .int p3, .int p4, .int p5])).length) Slot.unset).toArray = ls at hl ⊢
  have hl : lv_has ls 7 [(0, .ref h), (1, .int p1), (2, .int p2), (3, .int p3), (4, .int p4), (5, .int p5)] := hl
  unfold wp_X0_copy_BS at hw
  refine lv_iload_n hx hb dX0_copy_0 rfl (lv_at hl 1 rfl) ?_
  refine lv_iconst (v := (0 : Int32)) hx hb dX0_copy_1 (by decide) ?_
  have hPc := hP.sub (ws' := []) [] rfl
  have hDc := hD.sub (ws' := []) [] (by decide) rfl
  have hFc := va_free (wc := []) hD hS hA [] rfl
  refine va_calli (va_runS (As := [.int p1, .int (0 : Int32)]) (rest := []) ⟨hx, hb, hml, hown, hts⟩ (mt_X0_isSheet l G  s.heap.size  p1 (0 : Int32) _ hw) (va_cwS 2 hts (lw_S q648 q649 q54 q650) rfl rfl rfl (by decide +kernel) ⟨Nat.le_of_ble_eq_true rfl, Nat.le_of_ble_eq_true rfl⟩) ⟨fun a U g mk q => by obtain ⟨q0, q1, qP, qK, qD⟩ := q; exact ⟨q0, q1, qP, qK.call, qD⟩, fun U hU hW => ⟨rfl, by rw [hU], by rw [hU]; exact hPc, hK.warm hW, hDc.weaken (fun _ _ _ _ => trivial)⟩⟩ rfl rfl hl.1 rfl (lv_room (Nat.le_of_ble_eq_true rfl)) dX0_copy_2 ⟨Nat.le_of_ble_eq_true rfl, Nat.le_of_ble_eq_true rfl⟩) hS (fun q _ h => hFc q h) hFc (fun r_1 _ t H1 locs ht hvm hw hB hz1 hk1 hS => ?_)
  obtain ⟨hP1, hD1⟩ := hB
  rw [ht] at hP1
  obtain ⟨hP, hD⟩ := va_join (wr := [oc h 0 [.ref h_kinds, .ref h_now, .ref h_fault, .ref h_tape, .int taped, .int reads, .ref h_got, .ref h_failing, .ref h_past, .int undoMany, .ref h_aside, .ref h_best, .ref h_tried, .ref h_kept, .ref h_keptPast, .int keptMany, .int isKept, .ref h_sheets], arf G h_sheets 7 4 shf, oc h_sheets_x 8 [.ref h_sheets_x_r], ay G h_sheets_x_r rn rw, oc h_sheets_y 8 [.ref h_sheets_y_r], ah G h_sheets_y_r rn2 rw2]) (w1 := []) hP hD [] [0, 1, 2, 3, 4, 5] rfl rfl (by decide) (by decide) hk1 hFc hP1 hD1
  clear hPc hDc hFc hP1 hD1 hz1 hk1 hvm
  generalize H1 = H at hP hS ⊢
  have hP : va_P G.1 gCl [oc h 0 [.ref h_kinds, .ref h_now, .ref h_fault, .ref h_tape, .int taped, .int reads, .ref h_got, .ref h_failing, .ref h_past, .int undoMany, .ref h_aside, .ref h_best, .ref h_tried, .ref h_kept, .ref h_keptPast, .int keptMany, .int isKept, .ref h_sheets], arf G h_sheets 7 4 shf, oc h_sheets_x 8 [.ref h_sheets_x_r], ay G h_sheets_x_r rn rw, oc h_sheets_y 8 [.ref h_sheets_y_r], ah G h_sheets_y_r rn2 rw2] H := hP
  have hD : va_D A [oc h 0 [.ref h_kinds, .ref h_now, .ref h_fault, .ref h_tape, .int taped, .int reads, .ref h_got, .ref h_failing, .ref h_past, .int undoMany, .ref h_aside, .ref h_best, .ref h_tried, .ref h_kept, .ref h_keptPast, .int keptMany, .int isKept, .ref h_sheets], arf G h_sheets 7 4 shf, oc h_sheets_x 8 [.ref h_sheets_x_r], ay G h_sheets_x_r rn rw, oc h_sheets_y 8 [.ref h_sheets_y_r], ah G h_sheets_y_r rn2 rw2] := hD
  refine lv_if_eq (tgt := 16) hx hb dX0_copy_5 (by decide) (fun c_2 => ?_) (fun c_2 => ?_)
  · replace hw := hw.1 c_2
    refine lv_iconst (v := (-1 : Int32)) hx hb dX0_copy_16 (by decide) ?_
    have hP9 := hP
    have hD9 := hD
    exact w_widen (k := 3) (n := 1010) (by first | exact Nat.le_of_ble_eq_true rfl | omega) (by first | exact Nat.le_of_ble_eq_true rfl | omega) (W.iret (v := (-1 : Int32)) hx hb hr (fun t ht hW => ⟨⟨(-1 : Int32), (), rfl, hw, by rw [ht]; exact hP9, hD9⟩, hS.F ht⟩) hS.2.2 dX0_copy_17)
  · replace hw := hw.2 c_2
    refine lv_iload_n hx hb dX0_copy_8 rfl (lv_at hl 3 rfl) ?_
    refine lv_iconst (v := (0 : Int32)) hx hb dX0_copy_9 (by decide) ?_
    have hPc := hP.sub (ws' := []) [] rfl
    have hDc := hD.sub (ws' := []) [] (by decide) rfl
    have hFc := va_free (wc := []) hD hS hA [] rfl
    refine va_calli (va_runS (As := [.int p3, .int (0 : Int32)]) (rest := []) ⟨hx, hb, hml, hown, hts⟩ (mt_X0_isSheet l G  H.size  p3 (0 : Int32) _ hw) (va_cwS 2 hts (lw_S q648 q649 q54 q650) rfl rfl rfl (by decide +kernel) ⟨Nat.le_of_ble_eq_true rfl, Nat.le_of_ble_eq_true rfl⟩) ⟨fun a U g mk q => by obtain ⟨q0, q1, qP, qK, qD⟩ := q; exact ⟨q0, q1, qP, qK.call, qD⟩, fun U hU hW => ⟨rfl, by rw [hU], by rw [hU]; exact hPc, hK.warm hW, hDc.weaken (fun _ _ _ _ => trivial)⟩⟩ rfl rfl hl.1 rfl (lv_room (Nat.le_of_ble_eq_true rfl)) dX0_copy_10 ⟨Nat.le_of_ble_eq_true rfl, Nat.le_of_ble_eq_true rfl⟩) hS (fun q _ h => hFc q h) hFc (fun r_3 _ t H1 locs ht hvm hw hB hz1 hk1 hS => ?_)
    obtain ⟨hP1, hD1⟩ := hB
    rw [ht] at hP1
    obtain ⟨hP, hD⟩ := va_join (wr := [oc h 0 [.ref h_kinds, .ref h_now, .ref h_fault, .ref h_tape, .int taped, .int reads, .ref h_got, .ref h_failing, .ref h_past, .int undoMany, .ref h_aside, .ref h_best, .ref h_tried, .ref h_kept, .ref h_keptPast, .int keptMany, .int isKept, .ref h_sheets], arf G h_sheets 7 4 shf, oc h_sheets_x 8 [.ref h_sheets_x_r], ay G h_sheets_x_r rn rw, oc h_sheets_y 8 [.ref h_sheets_y_r], ah G h_sheets_y_r rn2 rw2]) (w1 := []) hP hD [] [0, 1, 2, 3, 4, 5] rfl rfl (by decide) (by decide) hk1 hFc hP1 hD1
    clear hPc hDc hFc hP1 hD1 hz1 hk1 hvm
    generalize H1 = H at hP hS ⊢
    have hP : va_P G.1 gCl [oc h 0 [.ref h_kinds, .ref h_now, .ref h_fault, .ref h_tape, .int taped, .int reads, .ref h_got, .ref h_failing, .ref h_past, .int undoMany, .ref h_aside, .ref h_best, .ref h_tried, .ref h_kept, .ref h_keptPast, .int keptMany, .int isKept, .ref h_sheets], arf G h_sheets 7 4 shf, oc h_sheets_x 8 [.ref h_sheets_x_r], ay G h_sheets_x_r rn rw, oc h_sheets_y 8 [.ref h_sheets_y_r], ah G h_sheets_y_r rn2 rw2] H := hP
    have hD : va_D A [oc h 0 [.ref h_kinds, .ref h_now, .ref h_fault, .ref h_tape, .int taped, .int reads, .ref h_got, .ref h_failing, .ref h_past, .int undoMany, .ref h_aside, .ref h_best, .ref h_tried, .ref h_kept, .ref h_keptPast, .int keptMany, .int isKept, .ref h_sheets], arf G h_sheets 7 4 shf, oc h_sheets_x 8 [.ref h_sheets_x_r], ay G h_sheets_x_r rn rw, oc h_sheets_y 8 [.ref h_sheets_y_r], ah G h_sheets_y_r rn2 rw2] := hD
    refine lv_if_ne (tgt := 18) hx hb dX0_copy_13 (by decide) (fun c_4 => ?_) (fun c_4 => ?_)
    · replace hw := hw.1 c_4
      refine lv_aload_n hx hb dX0_copy_18 rfl (lv_at hl 0 rfl) ?_
      refine va_get (D := G.1) (ci := 0) (v := .ref h_sheets) (C := RX0) (T := TX0) (N := 18) hx hb hts in_X0 hown hK.1 hP 0 rfl rfl 17 (by decide) (hts _ q273) (fun _ h9 => h9) rfl dX0_copy_19 ?_
      refine lv_iload_n hx hb dX0_copy_22 rfl (lv_at hl 1 rfl) ?_
      obtain ⟨i_5, hw⟩ := hw
      refine z_aaldS hx hb hK.1 hP 1 7 rfl rfl i_5 dX0_copy_23 hsh ?_
      refine va_getN (D := G.1) (ci := 8) (v := .ref h_sheets_x_r) (C := RX8) (T := TX8) (N := 1) hx hb hts in_X8 hown hK.1 hP 2 rfl rfl 0 (by decide) (hK.n q251 rfl) (fun _ h9 => h9) rfl dX0_copy_24 ?_
      refine lv_iload_n hx hb dX0_copy_27 rfl (lv_at hl 2 rfl) ?_
      refine lv_aload_n hx hb dX0_copy_28 rfl (lv_at hl 0 rfl) ?_
      refine va_get (D := G.1) (ci := 0) (v := .ref h_sheets) (C := RX0) (T := TX0) (N := 18) hx hb hts in_X0 hown hK.1 hP 0 rfl rfl 17 (by decide) (hts _ q273) (fun _ h9 => h9) rfl dX0_copy_29 ?_
      refine lv_iload_n hx hb dX0_copy_32 rfl (lv_at hl 3 rfl) ?_
      obtain ⟨i_6, hw⟩ := hw
      refine z_aaldS hx hb hK.1 hP 1 7 rfl rfl i_6 dX0_copy_33 hsh2 ?_
      refine va_getN (D := G.1) (ci := 8) (v := .ref h_sheets_y_r) (C := RX8) (T := TX8) (N := 1) hx hb hts in_X8 hown hK.1 hP 4 rfl rfl 0 (by decide) (hK.n q251 rfl) (fun _ h9 => h9) rfl dX0_copy_34 ?_
      refine lv_iload hx hb dX0_copy_37 (lv_at hl 4 rfl) ?_
      refine lv_iload hx hb dX0_copy_39 (lv_at hl 5 rfl) ?_
      refine w_cpType (rest := []) ⟨hx, hb, hml.trans hl.1.symm, hts, hK, hX, hS, hP, hown, hts _ q512, hts _ q440, hts _ q439, hts _ q68, dX0_copy_41, Nat.le_of_ble_eq_true rfl, Nat.le_of_ble_eq_true rfl, Nat.le_of_ble_eq_true rfl, Nat.le_of_ble_eq_true rfl, Nat.le_of_ble_eq_true rfl⟩ 3 5 3 4 rfl rfl rfl rfl (by decide) (fun x_7 H hxo hP hS hz hk => ?_)
      obtain ⟨ce, hce, hcv, hcc⟩ := hxo
      refine wx_catch (cell := ce) hce (by rw [hcv]; rfl) [⟨18, 44, 47, 354⟩] ⟨18, 44, 52, 360⟩ [⟨18, 44, 57, 362⟩] hhd (fun pl hpl z hz => (List.forall_mem_cons.mpr ⟨x_pass (z := ⟨18, 44, 47, 354⟩) (by decide) (by decide) hown (hts _ q734) (hK.2.2 ("java/lang/ArrayStoreException", "java/lang/NullPointerException") (by decide +kernel)) hcc pl hpl, fun _ h9 => absurd h9 List.not_mem_nil⟩) z hz) (by decide) (by decide) hown (hts _ q796) (cT := ce.cls) hcc (vm_refl (args := #[]) (hK.n q808 rfl) hcc) ?_
      refine lv_astore (lv' := [(6, .ref x_7), (0, .ref h), (1, .int p1), (2, .int p2), (3, .int p3), (4, .int p4), (5, .int p5)]) hx hb dX0_copy_52 hl (by decide) rfl (fun ls hl => ?_)
      refine lv_bipush (v := (-12 : Int32)) hx hb dX0_copy_54 (by decide) ?_
      have hP9 := hP
      have hD9 := hD
      exact w_widen (k := 3) (n := 1010) (by first | exact Nat.le_of_ble_eq_true rfl | omega) (by first | exact Nat.le_of_ble_eq_true rfl | omega) (W.iret (v := (-12 : Int32)) hx hb hr (fun t ht hW => ⟨⟨(-12 : Int32), (), rfl, hw, by rw [ht]; exact hP9, hD9⟩, hS.F ht⟩) hS.2.2 dX0_copy_56)
    · replace hw := hw.2 c_4
      refine lv_iconst (v := (-1 : Int32)) hx hb dX0_copy_16 (by decide) ?_
      have hP9 := hP
      have hD9 := hD
      exact w_widen (k := 3) (n := 1010) (by first | exact Nat.le_of_ble_eq_true rfl | omega) (by first | exact Nat.le_of_ble_eq_true rfl | omega) (W.iret (v := (-1 : Int32)) hx hb hr (fun t ht hW => ⟨⟨(-1 : Int32), (), rfl, hw, by rw [ht]; exact hP9, hD9⟩, hS.F ht⟩) hS.2.2 dX0_copy_17)
/-! BattleBench.copy(IIIII)I -/
def wp_X0_copy_BI (rn : Nat) (rw : Nat → Int32) (rn2 : Nat) (rw2 : Nat → Int32) (p1 : Int32) (p2 : Int32) (p3 : Int32) (p4 : Int32) (p5 : Int32) (Q : Int32 → Prop) : Prop :=
  wp_X0_isSheet  p1 (0 : Int32) (fun r_1 => (((r_1 = 0) → Q (-1 : Int32)) ∧ (¬ (r_1 = 0) → wp_X0_isSheet  p3 (0 : Int32) (fun r_3 => ((¬ (r_3 = 0) → (vp_in p1 4 ∧ (vp_in p3 4 ∧ Q (-12 : Int32)))) ∧ ((r_3 = 0) → Q (-1 : Int32)))))))
set_option maxHeartbeats 4000000 in
theorem mt_X0_copy_BI (l : Launch) (G : GT) (aS : Nat) (hfl : l.flags = pinnedFlags ++ [noTraceFlag]) (h h_kinds h_now h_fault h_tape h_got h_failing h_past h_aside h_best h_tried h_kept h_keptPast h_sheets h_sheets_x h_sheets_x_r h_sheets_y h_sheets_y_r : Nat) (shf : Nat → Option Nat) (sz : Nat) (taped : Int32) (reads : Int32) (undoMany : Int32) (keptMany : Int32) (isKept : Int32) (rn : Nat) (rw : Nat → Int32) (rn2 : Nat) (rw2 : Nat → Int32) (p1 : Int32) (p2 : Int32) (p3 : Int32) (p4 : Int32) (p5 : Int32)(hsh : shf p1.toNatClampNeg = some h_sheets_x) (hsh2 : shf p3.toNatClampNeg = some h_sheets_y) (Q : Int32 → Prop) (hw : wp_X0_copy_BI rn rw rn2 rw2 p1 p2 p3 p4 p5 Q) : Met l yX0_copy (wsW_ yX0_copy cX0_copy 7 (some .int) [(18, 44, 47, 354), (18, 44, 52, 360), (18, 44, 57, 362)]) ({ frames := 9, cells := 3, slots := 1010, locals := 10248 } : Room) (va_Pc [.ref h, .int p1, .int p2, .int p3, .int p4, .int p5] (fun U => U.heap.size = sz ∧ va_P G.1 gCl [oc h 0 [.ref h_kinds, .ref h_now, .ref h_fault, .ref h_tape, .int taped, .int reads, .ref h_got, .ref h_failing, .ref h_past, .int undoMany, .ref h_aside, .ref h_best, .ref h_tried, .ref h_kept, .ref h_keptPast, .int keptMany, .int isKept, .ref h_sheets], arf G h_sheets 7 4 shf, oc h_sheets_x 8 [.ref h_sheets_x_r], ay G h_sheets_x_r rn rw, oc h_sheets_y 8 [.ref h_sheets_y_r], ai G h_sheets_y_r rn2 rw2] U.heap ∧ gK G U ∧ va_D (fun _ => True) [oc h 0 [.ref h_kinds, .ref h_now, .ref h_fault, .ref h_tape, .int taped, .int reads, .ref h_got, .ref h_failing, .ref h_past, .int undoMany, .ref h_aside, .ref h_best, .ref h_tried, .ref h_kept, .ref h_keptPast, .int keptMany, .int isKept, .ref h_sheets], arf G h_sheets 7 4 shf, oc h_sheets_x 8 [.ref h_sheets_x_r], ay G h_sheets_x_r rn rw, oc h_sheets_y 8 [.ref h_sheets_y_r], ai G h_sheets_y_r rn2 rw2] ∧ stS aS U)) ((fun A => (va_Qi (fun (r : Int32) (u : Unit) => Q r ) (fun u t => va_P G.1 gCl [oc h 0 [.ref h_kinds, .ref h_now, .ref h_fault, .ref h_tape, .int taped, .int reads, .ref h_got, .ref h_failing, .ref h_past, .int undoMany, .ref h_aside, .ref h_best, .ref h_tried, .ref h_kept, .ref h_keptPast, .int keptMany, .int isKept, .ref h_sheets], arf G h_sheets 7 4 shf, oc h_sheets_x 8 [.ref h_sheets_x_r], ay G h_sheets_x_r rn rw, oc h_sheets_y 8 [.ref h_sheets_y_r], ai G h_sheets_y_r rn2 rw2] t.heap ∧ va_D A [oc h 0 [.ref h_kinds, .ref h_now, .ref h_fault, .ref h_tape, .int taped, .int reads, .ref h_got, .ref h_failing, .ref h_past, .int undoMany, .ref h_aside, .ref h_best, .ref h_tried, .ref h_kept, .ref h_keptPast, .int keptMany, .int isKept, .ref h_sheets], arf G h_sheets 7 4 shf, oc h_sheets_x 8 [.ref h_sheets_x_r], ay G h_sheets_x_r rn rw, oc h_sheets_y 8 [.ref h_sheets_y_r], ai G h_sheets_y_r rn2 rw2]) A)) (va_A [oc h 0 [.ref h_kinds, .ref h_now, .ref h_fault, .ref h_tape, .int taped, .int reads, .ref h_got, .ref h_failing, .ref h_past, .int undoMany, .ref h_aside, .ref h_best, .ref h_tried, .ref h_kept, .ref h_keptPast, .int keptMany, .int isKept, .ref h_sheets], arf G h_sheets 7 4 shf, oc h_sheets_x 8 [.ref h_sheets_x_r], ay G h_sheets_x_r rn rw, oc h_sheets_y 8 [.ref h_sheets_y_r], ai G h_sheets_y_r rn2 rw2] sz)) 3 1010 (va_A [oc h 0 [.ref h_kinds, .ref h_now, .ref h_fault, .ref h_tape, .int taped, .int reads, .ref h_got, .ref h_failing, .ref h_past, .int undoMany, .ref h_aside, .ref h_best, .ref h_tried, .ref h_kept, .ref h_keptPast, .int keptMany, .int isKept, .ref h_sheets], arf G h_sheets 7 4 shf, oc h_sheets_x 8 [.ref h_sheets_x_r], ay G h_sheets_x_r rn rw, oc h_sheets_y 8 [.ref h_sheets_y_r], ai G h_sheets_y_r rn2 rw2] sz) := by
  refine va_MetW (hh := [(18, 44, 47, 354), (18, 44, 52, 360), (18, 44, 57, 362)]) (cc := cX0_copy) (maxL := 7) (ret := (some .int)) (by decide) rfl ?_
  intro p e s m args below meth c s₁ B hml hv
  obtain ⟨rfl, hsz, hP, hK, hD0, hst⟩ := hv
  have hx := B.exec
  have hb := B.bytes
  have hr := B.returns
  have hts := atoms_spec (ws := (wsW_ yX0_copy cX0_copy 7 (some .int) [(18, 44, 47, 354), (18, 44, 52, 360), (18, 44, 57, 362)])) B.pre
  have hts : ∀ w ∈ lw_all, w.before _ s = true := fun w h => hts w (List.mem_cons_of_mem _ h)
  have hown : s.vm.findClass RX0 = some m.cls := findClass_of_methodNamed B.named
  have hlocks := B.notSynchronized
  have hhd : c.exceptionTable.toList = [⟨18, 44, 47, 354⟩, ⟨18, 44, 52, 360⟩, ⟨18, 44, 57, 362⟩] := x_hand B (atoms_spec (ws := (wsW_ yX0_copy cX0_copy 7 (some .int) [(18, 44, 47, 354), (18, 44, 52, 360), (18, 44, 57, 362)])) B.pre _ List.mem_cons_self)
  subst hsz
  have hD := hD0.self (sz := s.heap.size)
  generalize hAe : va_A [oc h 0 [.ref h_kinds, .ref h_now, .ref h_fault, .ref h_tape, .int taped, .int reads, .ref h_got, .ref h_failing, .ref h_past, .int undoMany, .ref h_aside, .ref h_best, .ref h_tried, .ref h_kept, .ref h_keptPast, .int keptMany, .int isKept, .ref h_sheets], arf G h_sheets 7 4 shf, oc h_sheets_x 8 [.ref h_sheets_x_r], ay G h_sheets_x_r rn rw, oc h_sheets_y 8 [.ref h_sheets_y_r], ai G h_sheets_y_r rn2 rw2] s.heap.size = A at hD ⊢
  have hA : ∀ q : Nat, s.heap.size ≤ q → A q := fun q h => by rw [← hAe]; exact Or.inr h
  have hS : va_S A s.heap s.heap [] := va_S.rf
  have hX : XCx l aS s A := ⟨hfl, hst, fun q cell hq hc => va_A.ns hP (by rw [hAe]; exact hq) hc⟩
  have C : Cx p s m meth c cX0_copy 7 (some .int) RX0 ([.ref h, .int p1, .int p2, .int p3, .int p4, .int p5] : List Value).toArray G A := ⟨hx, hb, hr, hlocks, hml, hown, hts, hK, hA⟩
  have hl := lv_entry ([.ref h, .int p1, .int p2, .int p3, .int p4, .int p5]) (n := 7) (Nat.le_of_ble_eq_true rfl)
  rw [lg_entry_eq]
  generalize (lg_sl ([.ref h, .int p1, .int p2, .int p3, .int p4, .int p5]) ++ List.replicate (7 - (lg_sl ([.ref h, .int p1, .int p2, .int p3, .int p4, .int p5])).length) Slot.unset).toArray = ls at hl ⊢
  have hl : lv_has ls 7 [(0, .ref h), (1, .int p1), (2, .int p2), (3, .int p3), (4, .int p4), (5, .int p5)] := hl
  unfold wp_X0_copy_BI at hw
  refine lv_iload_n hx hb dX0_copy_0 rfl (lv_at hl 1 rfl) ?_
  refine lv_iconst (v := (0 : Int32)) hx hb dX0_copy_1 (by decide) ?_
  have hPc := hP.sub (ws' := []) [] rfl
  have hDc := hD.sub (ws' := []) [] (by decide) rfl
  have hFc := va_free (wc := []) hD hS hA [] rfl
  refine va_calli (va_runS (As := [.int p1, .int (0 : Int32)]) (rest := []) ⟨hx, hb, hml, hown, hts⟩ (mt_X0_isSheet l G  s.heap.size  p1 (0 : Int32) _ hw) (va_cwS 2 hts (lw_S q648 q649 q54 q650) rfl rfl rfl (by decide +kernel) ⟨Nat.le_of_ble_eq_true rfl, Nat.le_of_ble_eq_true rfl⟩) ⟨fun a U g mk q => by obtain ⟨q0, q1, qP, qK, qD⟩ := q; exact ⟨q0, q1, qP, qK.call, qD⟩, fun U hU hW => ⟨rfl, by rw [hU], by rw [hU]; exact hPc, hK.warm hW, hDc.weaken (fun _ _ _ _ => trivial)⟩⟩ rfl rfl hl.1 rfl (lv_room (Nat.le_of_ble_eq_true rfl)) dX0_copy_2 ⟨Nat.le_of_ble_eq_true rfl, Nat.le_of_ble_eq_true rfl⟩) hS (fun q _ h => hFc q h) hFc (fun r_1 _ t H1 locs ht hvm hw hB hz1 hk1 hS => ?_)
  obtain ⟨hP1, hD1⟩ := hB
  rw [ht] at hP1
  obtain ⟨hP, hD⟩ := va_join (wr := [oc h 0 [.ref h_kinds, .ref h_now, .ref h_fault, .ref h_tape, .int taped, .int reads, .ref h_got, .ref h_failing, .ref h_past, .int undoMany, .ref h_aside, .ref h_best, .ref h_tried, .ref h_kept, .ref h_keptPast, .int keptMany, .int isKept, .ref h_sheets], arf G h_sheets 7 4 shf, oc h_sheets_x 8 [.ref h_sheets_x_r], ay G h_sheets_x_r rn rw, oc h_sheets_y 8 [.ref h_sheets_y_r], ai G h_sheets_y_r rn2 rw2]) (w1 := []) hP hD [] [0, 1, 2, 3, 4, 5] rfl rfl (by decide) (by decide) hk1 hFc hP1 hD1
  clear hPc hDc hFc hP1 hD1 hz1 hk1 hvm
  generalize H1 = H at hP hS ⊢
  have hP : va_P G.1 gCl [oc h 0 [.ref h_kinds, .ref h_now, .ref h_fault, .ref h_tape, .int taped, .int reads, .ref h_got, .ref h_failing, .ref h_past, .int undoMany, .ref h_aside, .ref h_best, .ref h_tried, .ref h_kept, .ref h_keptPast, .int keptMany, .int isKept, .ref h_sheets], arf G h_sheets 7 4 shf, oc h_sheets_x 8 [.ref h_sheets_x_r], ay G h_sheets_x_r rn rw, oc h_sheets_y 8 [.ref h_sheets_y_r], ai G h_sheets_y_r rn2 rw2] H := hP
  have hD : va_D A [oc h 0 [.ref h_kinds, .ref h_now, .ref h_fault, .ref h_tape, .int taped, .int reads, .ref h_got, .ref h_failing, .ref h_past, .int undoMany, .ref h_aside, .ref h_best, .ref h_tried, .ref h_kept, .ref h_keptPast, .int keptMany, .int isKept, .ref h_sheets], arf G h_sheets 7 4 shf, oc h_sheets_x 8 [.ref h_sheets_x_r], ay G h_sheets_x_r rn rw, oc h_sheets_y 8 [.ref h_sheets_y_r], ai G h_sheets_y_r rn2 rw2] := hD
  refine lv_if_eq (tgt := 16) hx hb dX0_copy_5 (by decide) (fun c_2 => ?_) (fun c_2 => ?_)
  · replace hw := hw.1 c_2
    refine lv_iconst (v := (-1 : Int32)) hx hb dX0_copy_16 (by decide) ?_
    have hP9 := hP
    have hD9 := hD
    exact w_widen (k := 3) (n := 1010) (by first | exact Nat.le_of_ble_eq_true rfl | omega) (by first | exact Nat.le_of_ble_eq_true rfl | omega) (W.iret (v := (-1 : Int32)) hx hb hr (fun t ht hW => ⟨⟨(-1 : Int32), (), rfl, hw, by rw [ht]; exact hP9, hD9⟩, hS.F ht⟩) hS.2.2 dX0_copy_17)
  · replace hw := hw.2 c_2
    refine lv_iload_n hx hb dX0_copy_8 rfl (lv_at hl 3 rfl) ?_
    refine lv_iconst (v := (0 : Int32)) hx hb dX0_copy_9 (by decide) ?_
    have hPc := hP.sub (ws' := []) [] rfl
    have hDc := hD.sub (ws' := []) [] (by decide) rfl
    have hFc := va_free (wc := []) hD hS hA [] rfl
    refine va_calli (va_runS (As := [.int p3, .int (0 : Int32)]) (rest := []) ⟨hx, hb, hml, hown, hts⟩ (mt_X0_isSheet l G  H.size  p3 (0 : Int32) _ hw) (va_cwS 2 hts (lw_S q648 q649 q54 q650) rfl rfl rfl (by decide +kernel) ⟨Nat.le_of_ble_eq_true rfl, Nat.le_of_ble_eq_true rfl⟩) ⟨fun a U g mk q => by obtain ⟨q0, q1, qP, qK, qD⟩ := q; exact ⟨q0, q1, qP, qK.call, qD⟩, fun U hU hW => ⟨rfl, by rw [hU], by rw [hU]; exact hPc, hK.warm hW, hDc.weaken (fun _ _ _ _ => trivial)⟩⟩ rfl rfl hl.1 rfl (lv_room (Nat.le_of_ble_eq_true rfl)) dX0_copy_10 ⟨Nat.le_of_ble_eq_true rfl, Nat.le_of_ble_eq_true rfl⟩) hS (fun q _ h => hFc q h) hFc (fun r_3 _ t H1 locs ht hvm hw hB hz1 hk1 hS => ?_)
    obtain ⟨hP1, hD1⟩ := hB
    rw [ht] at hP1
    obtain ⟨hP, hD⟩ := va_join (wr := [oc h 0 [.ref h_kinds, .ref h_now, .ref h_fault, .ref h_tape, .int taped, .int reads, .ref h_got, .ref h_failing, .ref h_past, .int undoMany, .ref h_aside, .ref h_best, .ref h_tried, .ref h_kept, .ref h_keptPast, .int keptMany, .int isKept, .ref h_sheets], arf G h_sheets 7 4 shf, oc h_sheets_x 8 [.ref h_sheets_x_r], ay G h_sheets_x_r rn rw, oc h_sheets_y 8 [.ref h_sheets_y_r], ai G h_sheets_y_r rn2 rw2]) (w1 := []) hP hD [] [0, 1, 2, 3, 4, 5] rfl rfl (by decide) (by decide) hk1 hFc hP1 hD1
    clear hPc hDc hFc hP1 hD1 hz1 hk1 hvm
    generalize H1 = H at hP hS ⊢
    have hP : va_P G.1 gCl [oc h 0 [.ref h_kinds, .ref h_now, .ref h_fault, .ref h_tape, .int taped, .int reads, .ref h_got, .ref h_failing, .ref h_past, .int undoMany, .ref h_aside, .ref h_best, .ref h_tried, .ref h_kept, .ref h_keptPast, .int keptMany, .int isKept, .ref h_sheets], arf G h_sheets 7 4 shf, oc h_sheets_x 8 [.ref h_sheets_x_r], ay G h_sheets_x_r rn rw, oc h_sheets_y 8 [.ref h_sheets_y_r], ai G h_sheets_y_r rn2 rw2] H := hP
    have hD : va_D A [oc h 0 [.ref h_kinds, .ref h_now, .ref h_fault, .ref h_tape, .int taped, .int reads, .ref h_got, .ref h_failing, .ref h_past, .int undoMany, .ref h_aside, .ref h_best, .ref h_tried, .ref h_kept, .ref h_keptPast, .int keptMany, .int isKept, .ref h_sheets], arf G h_sheets 7 4 shf, oc h_sheets_x 8 [.ref h_sheets_x_r], ay G h_sheets_x_r rn rw, oc h_sheets_y 8 [.ref h_sheets_y_r], ai G h_sheets_y_r rn2 rw2] := hD
    refine lv_if_ne (tgt := 18) hx hb dX0_copy_13 (by decide) (fun c_4 => ?_) (fun c_4 => ?_)
    · replace hw := hw.1 c_4
      refine lv_aload_n hx hb dX0_copy_18 rfl (lv_at hl 0 rfl) ?_
      refine va_get (D := G.1) (ci := 0) (v := .ref h_sheets) (C := RX0) (T := TX0) (N := 18) hx hb hts in_X0 hown hK.1 hP 0 rfl rfl 17 (by decide) (hts _ q273) (fun _ h9 => h9) rfl dX0_copy_19 ?_
      refine lv_iload_n hx hb dX0_copy_22 rfl (lv_at hl 1 rfl) ?_
      obtain ⟨i_5, hw⟩ := hw
      refine z_aaldS hx hb hK.1 hP 1 7 rfl rfl i_5 dX0_copy_23 hsh ?_
      refine va_getN (D := G.1) (ci := 8) (v := .ref h_sheets_x_r) (C := RX8) (T := TX8) (N := 1) hx hb hts in_X8 hown hK.1 hP 2 rfl rfl 0 (by decide) (hK.n q251 rfl) (fun _ h9 => h9) rfl dX0_copy_24 ?_
      refine lv_iload_n hx hb dX0_copy_27 rfl (lv_at hl 2 rfl) ?_
      refine lv_aload_n hx hb dX0_copy_28 rfl (lv_at hl 0 rfl) ?_
      refine va_get (D := G.1) (ci := 0) (v := .ref h_sheets) (C := RX0) (T := TX0) (N := 18) hx hb hts in_X0 hown hK.1 hP 0 rfl rfl 17 (by decide) (hts _ q273) (fun _ h9 => h9) rfl dX0_copy_29 ?_
      refine lv_iload_n hx hb dX0_copy_32 rfl (lv_at hl 3 rfl) ?_
      obtain ⟨i_6, hw⟩ := hw
      refine z_aaldS hx hb hK.1 hP 1 7 rfl rfl i_6 dX0_copy_33 hsh2 ?_
      refine va_getN (D := G.1) (ci := 8) (v := .ref h_sheets_y_r) (C := RX8) (T := TX8) (N := 1) hx hb hts in_X8 hown hK.1 hP 4 rfl rfl 0 (by decide) (hK.n q251 rfl) (fun _ h9 => h9) rfl dX0_copy_34 ?_
      refine lv_iload hx hb dX0_copy_37 (lv_at hl 4 rfl) ?_
      refine lv_iload hx hb dX0_copy_39 (lv_at hl 5 rfl) ?_
      refine w_cpType (rest := []) ⟨hx, hb, hml.trans hl.1.symm, hts, hK, hX, hS, hP, hown, hts _ q512, hts _ q440, hts _ q439, hts _ q68, dX0_copy_41, Nat.le_of_ble_eq_true rfl, Nat.le_of_ble_eq_true rfl, Nat.le_of_ble_eq_true rfl, Nat.le_of_ble_eq_true rfl, Nat.le_of_ble_eq_true rfl⟩ 3 5 3 0 rfl rfl rfl rfl (by decide) (fun x_7 H hxo hP hS hz hk => ?_)
      obtain ⟨ce, hce, hcv, hcc⟩ := hxo
      refine wx_catch (cell := ce) hce (by rw [hcv]; rfl) [⟨18, 44, 47, 354⟩] ⟨18, 44, 52, 360⟩ [⟨18, 44, 57, 362⟩] hhd (fun pl hpl z hz => (List.forall_mem_cons.mpr ⟨x_pass (z := ⟨18, 44, 47, 354⟩) (by decide) (by decide) hown (hts _ q734) (hK.2.2 ("java/lang/ArrayStoreException", "java/lang/NullPointerException") (by decide +kernel)) hcc pl hpl, fun _ h9 => absurd h9 List.not_mem_nil⟩) z hz) (by decide) (by decide) hown (hts _ q796) (cT := ce.cls) hcc (vm_refl (args := #[]) (hK.n q808 rfl) hcc) ?_
      refine lv_astore (lv' := [(6, .ref x_7), (0, .ref h), (1, .int p1), (2, .int p2), (3, .int p3), (4, .int p4), (5, .int p5)]) hx hb dX0_copy_52 hl (by decide) rfl (fun ls hl => ?_)
      refine lv_bipush (v := (-12 : Int32)) hx hb dX0_copy_54 (by decide) ?_
      have hP9 := hP
      have hD9 := hD
      exact w_widen (k := 3) (n := 1010) (by first | exact Nat.le_of_ble_eq_true rfl | omega) (by first | exact Nat.le_of_ble_eq_true rfl | omega) (W.iret (v := (-12 : Int32)) hx hb hr (fun t ht hW => ⟨⟨(-12 : Int32), (), rfl, hw, by rw [ht]; exact hP9, hD9⟩, hS.F ht⟩) hS.2.2 dX0_copy_56)
    · replace hw := hw.2 c_4
      refine lv_iconst (v := (-1 : Int32)) hx hb dX0_copy_16 (by decide) ?_
      have hP9 := hP
      have hD9 := hD
      exact w_widen (k := 3) (n := 1010) (by first | exact Nat.le_of_ble_eq_true rfl | omega) (by first | exact Nat.le_of_ble_eq_true rfl | omega) (W.iret (v := (-1 : Int32)) hx hb hr (fun t ht hW => ⟨⟨(-1 : Int32), (), rfl, hw, by rw [ht]; exact hP9, hD9⟩, hS.F ht⟩) hS.2.2 dX0_copy_17)
/-! BattleBench.copy(IIIII)I -/
def wp_X0_copy_BJ (rn : Nat) (rw : Nat → Int32) (rn2 : Nat) (rw2 : Nat → Int64) (p1 : Int32) (p2 : Int32) (p3 : Int32) (p4 : Int32) (p5 : Int32) (Q : Int32 → Prop) : Prop :=
  wp_X0_isSheet  p1 (0 : Int32) (fun r_1 => (((r_1 = 0) → Q (-1 : Int32)) ∧ (¬ (r_1 = 0) → wp_X0_isSheet  p3 (0 : Int32) (fun r_3 => ((¬ (r_3 = 0) → (vp_in p1 4 ∧ (vp_in p3 4 ∧ Q (-12 : Int32)))) ∧ ((r_3 = 0) → Q (-1 : Int32)))))))
set_option maxHeartbeats 4000000 in
theorem mt_X0_copy_BJ (l : Launch) (G : GT) (aS : Nat) (hfl : l.flags = pinnedFlags ++ [noTraceFlag]) (h h_kinds h_now h_fault h_tape h_got h_failing h_past h_aside h_best h_tried h_kept h_keptPast h_sheets h_sheets_x h_sheets_x_r h_sheets_y h_sheets_y_r : Nat) (shf : Nat → Option Nat) (sz : Nat) (taped : Int32) (reads : Int32) (undoMany : Int32) (keptMany : Int32) (isKept : Int32) (rn : Nat) (rw : Nat → Int32) (rn2 : Nat) (rw2 : Nat → Int64) (p1 : Int32) (p2 : Int32) (p3 : Int32) (p4 : Int32) (p5 : Int32)(hsh : shf p1.toNatClampNeg = some h_sheets_x) (hsh2 : shf p3.toNatClampNeg = some h_sheets_y) (Q : Int32 → Prop) (hw : wp_X0_copy_BJ rn rw rn2 rw2 p1 p2 p3 p4 p5 Q) : Met l yX0_copy (wsW_ yX0_copy cX0_copy 7 (some .int) [(18, 44, 47, 354), (18, 44, 52, 360), (18, 44, 57, 362)]) ({ frames := 9, cells := 3, slots := 1010, locals := 10248 } : Room) (va_Pc [.ref h, .int p1, .int p2, .int p3, .int p4, .int p5] (fun U => U.heap.size = sz ∧ va_P G.1 gCl [oc h 0 [.ref h_kinds, .ref h_now, .ref h_fault, .ref h_tape, .int taped, .int reads, .ref h_got, .ref h_failing, .ref h_past, .int undoMany, .ref h_aside, .ref h_best, .ref h_tried, .ref h_kept, .ref h_keptPast, .int keptMany, .int isKept, .ref h_sheets], arf G h_sheets 7 4 shf, oc h_sheets_x 8 [.ref h_sheets_x_r], ay G h_sheets_x_r rn rw, oc h_sheets_y 8 [.ref h_sheets_y_r], al G h_sheets_y_r rn2 rw2] U.heap ∧ gK G U ∧ va_D (fun _ => True) [oc h 0 [.ref h_kinds, .ref h_now, .ref h_fault, .ref h_tape, .int taped, .int reads, .ref h_got, .ref h_failing, .ref h_past, .int undoMany, .ref h_aside, .ref h_best, .ref h_tried, .ref h_kept, .ref h_keptPast, .int keptMany, .int isKept, .ref h_sheets], arf G h_sheets 7 4 shf, oc h_sheets_x 8 [.ref h_sheets_x_r], ay G h_sheets_x_r rn rw, oc h_sheets_y 8 [.ref h_sheets_y_r], al G h_sheets_y_r rn2 rw2] ∧ stS aS U)) ((fun A => (va_Qi (fun (r : Int32) (u : Unit) => Q r ) (fun u t => va_P G.1 gCl [oc h 0 [.ref h_kinds, .ref h_now, .ref h_fault, .ref h_tape, .int taped, .int reads, .ref h_got, .ref h_failing, .ref h_past, .int undoMany, .ref h_aside, .ref h_best, .ref h_tried, .ref h_kept, .ref h_keptPast, .int keptMany, .int isKept, .ref h_sheets], arf G h_sheets 7 4 shf, oc h_sheets_x 8 [.ref h_sheets_x_r], ay G h_sheets_x_r rn rw, oc h_sheets_y 8 [.ref h_sheets_y_r], al G h_sheets_y_r rn2 rw2] t.heap ∧ va_D A [oc h 0 [.ref h_kinds, .ref h_now, .ref h_fault, .ref h_tape, .int taped, .int reads, .ref h_got, .ref h_failing, .ref h_past, .int undoMany, .ref h_aside, .ref h_best, .ref h_tried, .ref h_kept, .ref h_keptPast, .int keptMany, .int isKept, .ref h_sheets], arf G h_sheets 7 4 shf, oc h_sheets_x 8 [.ref h_sheets_x_r], ay G h_sheets_x_r rn rw, oc h_sheets_y 8 [.ref h_sheets_y_r], al G h_sheets_y_r rn2 rw2]) A)) (va_A [oc h 0 [.ref h_kinds, .ref h_now, .ref h_fault, .ref h_tape, .int taped, .int reads, .ref h_got, .ref h_failing, .ref h_past, .int undoMany, .ref h_aside, .ref h_best, .ref h_tried, .ref h_kept, .ref h_keptPast, .int keptMany, .int isKept, .ref h_sheets], arf G h_sheets 7 4 shf, oc h_sheets_x 8 [.ref h_sheets_x_r], ay G h_sheets_x_r rn rw, oc h_sheets_y 8 [.ref h_sheets_y_r], al G h_sheets_y_r rn2 rw2] sz)) 3 1010 (va_A [oc h 0 [.ref h_kinds, .ref h_now, .ref h_fault, .ref h_tape, .int taped, .int reads, .ref h_got, .ref h_failing, .ref h_past, .int undoMany, .ref h_aside, .ref h_best, .ref h_tried, .ref h_kept, .ref h_keptPast, .int keptMany, .int isKept, .ref h_sheets], arf G h_sheets 7 4 shf, oc h_sheets_x 8 [.ref h_sheets_x_r], ay G h_sheets_x_r rn rw, oc h_sheets_y 8 [.ref h_sheets_y_r], al G h_sheets_y_r rn2 rw2] sz) := by
  refine va_MetW (hh := [(18, 44, 47, 354), (18, 44, 52, 360), (18, 44, 57, 362)]) (cc := cX0_copy) (maxL := 7) (ret := (some .int)) (by decide) rfl ?_
  intro p e s m args below meth c s₁ B hml hv
  obtain ⟨rfl, hsz, hP, hK, hD0, hst⟩ := hv
  have hx := B.exec
  have hb := B.bytes
  have hr := B.returns
  have hts := atoms_spec (ws := (wsW_ yX0_copy cX0_copy 7 (some .int) [(18, 44, 47, 354), (18, 44, 52, 360), (18, 44, 57, 362)])) B.pre
  have hts : ∀ w ∈ lw_all, w.before _ s = true := fun w h => hts w (List.mem_cons_of_mem _ h)
  have hown : s.vm.findClass RX0 = some m.cls := findClass_of_methodNamed B.named
  have hlocks := B.notSynchronized
  have hhd : c.exceptionTable.toList = [⟨18, 44, 47, 354⟩, ⟨18, 44, 52, 360⟩, ⟨18, 44, 57, 362⟩] := x_hand B (atoms_spec (ws := (wsW_ yX0_copy cX0_copy 7 (some .int) [(18, 44, 47, 354), (18, 44, 52, 360), (18, 44, 57, 362)])) B.pre _ List.mem_cons_self)
  subst hsz
  have hD := hD0.self (sz := s.heap.size)
  generalize hAe : va_A [oc h 0 [.ref h_kinds, .ref h_now, .ref h_fault, .ref h_tape, .int taped, .int reads, .ref h_got, .ref h_failing, .ref h_past, .int undoMany, .ref h_aside, .ref h_best, .ref h_tried, .ref h_kept, .ref h_keptPast, .int keptMany, .int isKept, .ref h_sheets], arf G h_sheets 7 4 shf, oc h_sheets_x 8 [.ref h_sheets_x_r], ay G h_sheets_x_r rn rw, oc h_sheets_y 8 [.ref h_sheets_y_r], al G h_sheets_y_r rn2 rw2] s.heap.size = A at hD ⊢
  have hA : ∀ q : Nat, s.heap.size ≤ q → A q := fun q h => by rw [← hAe]; exact Or.inr h
  have hS : va_S A s.heap s.heap [] := va_S.rf
  have hX : XCx l aS s A := ⟨hfl, hst, fun q cell hq hc => va_A.ns hP (by rw [hAe]; exact hq) hc⟩
  have C : Cx p s m meth c cX0_copy 7 (some .int) RX0 ([.ref h, .int p1, .int p2, .int p3, .int p4, .int p5] : List Value).toArray G A := ⟨hx, hb, hr, hlocks, hml, hown, hts, hK, hA⟩
  have hl := lv_entry ([.ref h, .int p1, .int p2, .int p3, .int p4, .int p5]) (n := 7) (Nat.le_of_ble_eq_true rfl)
  rw [lg_entry_eq]
  generalize (lg_sl ([.ref h, .int p1, .int p2, .int p3, .int p4, .int p5]) ++ List.replicate (7 - (lg_sl ([.ref h, .int p1, .int p2, .int p3, .int p4, .int p5])).length) Slot.unset).toArray = ls at hl ⊢
  have hl : lv_has ls 7 [(0, .ref h), (1, .int p1), (2, .int p2), (3, .int p3), (4, .int p4), (5, .int p5)] := hl
  unfold wp_X0_copy_BJ at hw
  refine lv_iload_n hx hb dX0_copy_0 rfl (lv_at hl 1 rfl) ?_
  refine lv_iconst (v := (0 : Int32)) hx hb dX0_copy_1 (by decide) ?_
  have hPc := hP.sub (ws' := []) [] rfl
  have hDc := hD.sub (ws' := []) [] (by decide) rfl
  have hFc := va_free (wc := []) hD hS hA [] rfl
  refine va_calli (va_runS (As := [.int p1, .int (0 : Int32)]) (rest := []) ⟨hx, hb, hml, hown, hts⟩ (mt_X0_isSheet l G  s.heap.size  p1 (0 : Int32) _ hw) (va_cwS 2 hts (lw_S q648 q649 q54 q650) rfl rfl rfl (by decide +kernel) ⟨Nat.le_of_ble_eq_true rfl, Nat.le_of_ble_eq_true rfl⟩) ⟨fun a U g mk q => by obtain ⟨q0, q1, qP, qK, qD⟩ := q; exact ⟨q0, q1, qP, qK.call, qD⟩, fun U hU hW => ⟨rfl, by rw [hU], by rw [hU]; exact hPc, hK.warm hW, hDc.weaken (fun _ _ _ _ => trivial)⟩⟩ rfl rfl hl.1 rfl (lv_room (Nat.le_of_ble_eq_true rfl)) dX0_copy_2 ⟨Nat.le_of_ble_eq_true rfl, Nat.le_of_ble_eq_true rfl⟩) hS (fun q _ h => hFc q h) hFc (fun r_1 _ t H1 locs ht hvm hw hB hz1 hk1 hS => ?_)
  obtain ⟨hP1, hD1⟩ := hB
  rw [ht] at hP1
  obtain ⟨hP, hD⟩ := va_join (wr := [oc h 0 [.ref h_kinds, .ref h_now, .ref h_fault, .ref h_tape, .int taped, .int reads, .ref h_got, .ref h_failing, .ref h_past, .int undoMany, .ref h_aside, .ref h_best, .ref h_tried, .ref h_kept, .ref h_keptPast, .int keptMany, .int isKept, .ref h_sheets], arf G h_sheets 7 4 shf, oc h_sheets_x 8 [.ref h_sheets_x_r], ay G h_sheets_x_r rn rw, oc h_sheets_y 8 [.ref h_sheets_y_r], al G h_sheets_y_r rn2 rw2]) (w1 := []) hP hD [] [0, 1, 2, 3, 4, 5] rfl rfl (by decide) (by decide) hk1 hFc hP1 hD1
  clear hPc hDc hFc hP1 hD1 hz1 hk1 hvm
  generalize H1 = H at hP hS ⊢
  have hP : va_P G.1 gCl [oc h 0 [.ref h_kinds, .ref h_now, .ref h_fault, .ref h_tape, .int taped, .int reads, .ref h_got, .ref h_failing, .ref h_past, .int undoMany, .ref h_aside, .ref h_best, .ref h_tried, .ref h_kept, .ref h_keptPast, .int keptMany, .int isKept, .ref h_sheets], arf G h_sheets 7 4 shf, oc h_sheets_x 8 [.ref h_sheets_x_r], ay G h_sheets_x_r rn rw, oc h_sheets_y 8 [.ref h_sheets_y_r], al G h_sheets_y_r rn2 rw2] H := hP
  have hD : va_D A [oc h 0 [.ref h_kinds, .ref h_now, .ref h_fault, .ref h_tape, .int taped, .int reads, .ref h_got, .ref h_failing, .ref h_past, .int undoMany, .ref h_aside, .ref h_best, .ref h_tried, .ref h_kept, .ref h_keptPast, .int keptMany, .int isKept, .ref h_sheets], arf G h_sheets 7 4 shf, oc h_sheets_x 8 [.ref h_sheets_x_r], ay G h_sheets_x_r rn rw, oc h_sheets_y 8 [.ref h_sheets_y_r], al G h_sheets_y_r rn2 rw2] := hD
  refine lv_if_eq (tgt := 16) hx hb dX0_copy_5 (by decide) (fun c_2 => ?_) (fun c_2 => ?_)
  · replace hw := hw.1 c_2
    refine lv_iconst (v := (-1 : Int32)) hx hb dX0_copy_16 (by decide) ?_
    have hP9 := hP
    have hD9 := hD
    exact w_widen (k := 3) (n := 1010) (by first | exact Nat.le_of_ble_eq_true rfl | omega) (by first | exact Nat.le_of_ble_eq_true rfl | omega) (W.iret (v := (-1 : Int32)) hx hb hr (fun t ht hW => ⟨⟨(-1 : Int32), (), rfl, hw, by rw [ht]; exact hP9, hD9⟩, hS.F ht⟩) hS.2.2 dX0_copy_17)
  · replace hw := hw.2 c_2
    refine lv_iload_n hx hb dX0_copy_8 rfl (lv_at hl 3 rfl) ?_
    refine lv_iconst (v := (0 : Int32)) hx hb dX0_copy_9 (by decide) ?_
    have hPc := hP.sub (ws' := []) [] rfl
    have hDc := hD.sub (ws' := []) [] (by decide) rfl
    have hFc := va_free (wc := []) hD hS hA [] rfl
    refine va_calli (va_runS (As := [.int p3, .int (0 : Int32)]) (rest := []) ⟨hx, hb, hml, hown, hts⟩ (mt_X0_isSheet l G  H.size  p3 (0 : Int32) _ hw) (va_cwS 2 hts (lw_S q648 q649 q54 q650) rfl rfl rfl (by decide +kernel) ⟨Nat.le_of_ble_eq_true rfl, Nat.le_of_ble_eq_true rfl⟩) ⟨fun a U g mk q => by obtain ⟨q0, q1, qP, qK, qD⟩ := q; exact ⟨q0, q1, qP, qK.call, qD⟩, fun U hU hW => ⟨rfl, by rw [hU], by rw [hU]; exact hPc, hK.warm hW, hDc.weaken (fun _ _ _ _ => trivial)⟩⟩ rfl rfl hl.1 rfl (lv_room (Nat.le_of_ble_eq_true rfl)) dX0_copy_10 ⟨Nat.le_of_ble_eq_true rfl, Nat.le_of_ble_eq_true rfl⟩) hS (fun q _ h => hFc q h) hFc (fun r_3 _ t H1 locs ht hvm hw hB hz1 hk1 hS => ?_)
    obtain ⟨hP1, hD1⟩ := hB
    rw [ht] at hP1
    obtain ⟨hP, hD⟩ := va_join (wr := [oc h 0 [.ref h_kinds, .ref h_now, .ref h_fault, .ref h_tape, .int taped, .int reads, .ref h_got, .ref h_failing, .ref h_past, .int undoMany, .ref h_aside, .ref h_best, .ref h_tried, .ref h_kept, .ref h_keptPast, .int keptMany, .int isKept, .ref h_sheets], arf G h_sheets 7 4 shf, oc h_sheets_x 8 [.ref h_sheets_x_r], ay G h_sheets_x_r rn rw, oc h_sheets_y 8 [.ref h_sheets_y_r], al G h_sheets_y_r rn2 rw2]) (w1 := []) hP hD [] [0, 1, 2, 3, 4, 5] rfl rfl (by decide) (by decide) hk1 hFc hP1 hD1
    clear hPc hDc hFc hP1 hD1 hz1 hk1 hvm
    generalize H1 = H at hP hS ⊢
    have hP : va_P G.1 gCl [oc h 0 [.ref h_kinds, .ref h_now, .ref h_fault, .ref h_tape, .int taped, .int reads, .ref h_got, .ref h_failing, .ref h_past, .int undoMany, .ref h_aside, .ref h_best, .ref h_tried, .ref h_kept, .ref h_keptPast, .int keptMany, .int isKept, .ref h_sheets], arf G h_sheets 7 4 shf, oc h_sheets_x 8 [.ref h_sheets_x_r], ay G h_sheets_x_r rn rw, oc h_sheets_y 8 [.ref h_sheets_y_r], al G h_sheets_y_r rn2 rw2] H := hP
    have hD : va_D A [oc h 0 [.ref h_kinds, .ref h_now, .ref h_fault, .ref h_tape, .int taped, .int reads, .ref h_got, .ref h_failing, .ref h_past, .int undoMany, .ref h_aside, .ref h_best, .ref h_tried, .ref h_kept, .ref h_keptPast, .int keptMany, .int isKept, .ref h_sheets], arf G h_sheets 7 4 shf, oc h_sheets_x 8 [.ref h_sheets_x_r], ay G h_sheets_x_r rn rw, oc h_sheets_y 8 [.ref h_sheets_y_r], al G h_sheets_y_r rn2 rw2] := hD
    refine lv_if_ne (tgt := 18) hx hb dX0_copy_13 (by decide) (fun c_4 => ?_) (fun c_4 => ?_)
    · replace hw := hw.1 c_4
      refine lv_aload_n hx hb dX0_copy_18 rfl (lv_at hl 0 rfl) ?_
      refine va_get (D := G.1) (ci := 0) (v := .ref h_sheets) (C := RX0) (T := TX0) (N := 18) hx hb hts in_X0 hown hK.1 hP 0 rfl rfl 17 (by decide) (hts _ q273) (fun _ h9 => h9) rfl dX0_copy_19 ?_
      refine lv_iload_n hx hb dX0_copy_22 rfl (lv_at hl 1 rfl) ?_
      obtain ⟨i_5, hw⟩ := hw
      refine z_aaldS hx hb hK.1 hP 1 7 rfl rfl i_5 dX0_copy_23 hsh ?_
      refine va_getN (D := G.1) (ci := 8) (v := .ref h_sheets_x_r) (C := RX8) (T := TX8) (N := 1) hx hb hts in_X8 hown hK.1 hP 2 rfl rfl 0 (by decide) (hK.n q251 rfl) (fun _ h9 => h9) rfl dX0_copy_24 ?_
      refine lv_iload_n hx hb dX0_copy_27 rfl (lv_at hl 2 rfl) ?_
      refine lv_aload_n hx hb dX0_copy_28 rfl (lv_at hl 0 rfl) ?_
      refine va_get (D := G.1) (ci := 0) (v := .ref h_sheets) (C := RX0) (T := TX0) (N := 18) hx hb hts in_X0 hown hK.1 hP 0 rfl rfl 17 (by decide) (hts _ q273) (fun _ h9 => h9) rfl dX0_copy_29 ?_
      refine lv_iload_n hx hb dX0_copy_32 rfl (lv_at hl 3 rfl) ?_
      obtain ⟨i_6, hw⟩ := hw
      refine z_aaldS hx hb hK.1 hP 1 7 rfl rfl i_6 dX0_copy_33 hsh2 ?_
      refine va_getN (D := G.1) (ci := 8) (v := .ref h_sheets_y_r) (C := RX8) (T := TX8) (N := 1) hx hb hts in_X8 hown hK.1 hP 4 rfl rfl 0 (by decide) (hK.n q251 rfl) (fun _ h9 => h9) rfl dX0_copy_34 ?_
      refine lv_iload hx hb dX0_copy_37 (lv_at hl 4 rfl) ?_
      refine lv_iload hx hb dX0_copy_39 (lv_at hl 5 rfl) ?_
      refine w_cpType (rest := []) ⟨hx, hb, hml.trans hl.1.symm, hts, hK, hX, hS, hP, hown, hts _ q512, hts _ q440, hts _ q439, hts _ q68, dX0_copy_41, Nat.le_of_ble_eq_true rfl, Nat.le_of_ble_eq_true rfl, Nat.le_of_ble_eq_true rfl, Nat.le_of_ble_eq_true rfl, Nat.le_of_ble_eq_true rfl⟩ 3 5 3 1 rfl rfl rfl rfl (by decide) (fun x_7 H hxo hP hS hz hk => ?_)
      obtain ⟨ce, hce, hcv, hcc⟩ := hxo
      refine wx_catch (cell := ce) hce (by rw [hcv]; rfl) [⟨18, 44, 47, 354⟩] ⟨18, 44, 52, 360⟩ [⟨18, 44, 57, 362⟩] hhd (fun pl hpl z hz => (List.forall_mem_cons.mpr ⟨x_pass (z := ⟨18, 44, 47, 354⟩) (by decide) (by decide) hown (hts _ q734) (hK.2.2 ("java/lang/ArrayStoreException", "java/lang/NullPointerException") (by decide +kernel)) hcc pl hpl, fun _ h9 => absurd h9 List.not_mem_nil⟩) z hz) (by decide) (by decide) hown (hts _ q796) (cT := ce.cls) hcc (vm_refl (args := #[]) (hK.n q808 rfl) hcc) ?_
      refine lv_astore (lv' := [(6, .ref x_7), (0, .ref h), (1, .int p1), (2, .int p2), (3, .int p3), (4, .int p4), (5, .int p5)]) hx hb dX0_copy_52 hl (by decide) rfl (fun ls hl => ?_)
      refine lv_bipush (v := (-12 : Int32)) hx hb dX0_copy_54 (by decide) ?_
      have hP9 := hP
      have hD9 := hD
      exact w_widen (k := 3) (n := 1010) (by first | exact Nat.le_of_ble_eq_true rfl | omega) (by first | exact Nat.le_of_ble_eq_true rfl | omega) (W.iret (v := (-12 : Int32)) hx hb hr (fun t ht hW => ⟨⟨(-12 : Int32), (), rfl, hw, by rw [ht]; exact hP9, hD9⟩, hS.F ht⟩) hS.2.2 dX0_copy_56)
    · replace hw := hw.2 c_4
      refine lv_iconst (v := (-1 : Int32)) hx hb dX0_copy_16 (by decide) ?_
      have hP9 := hP
      have hD9 := hD
      exact w_widen (k := 3) (n := 1010) (by first | exact Nat.le_of_ble_eq_true rfl | omega) (by first | exact Nat.le_of_ble_eq_true rfl | omega) (W.iret (v := (-1 : Int32)) hx hb hr (fun t ht hW => ⟨⟨(-1 : Int32), (), rfl, hw, by rw [ht]; exact hP9, hD9⟩, hS.F ht⟩) hS.2.2 dX0_copy_17)
/-! BattleBench.copy(IIIII)I -/
def wp_X0_copy_BN (rn : Nat) (rw : Nat → Int32) (p1 : Int32) (p2 : Int32) (p3 : Int32) (p4 : Int32) (p5 : Int32) (Q : Int32 → Prop) : Prop :=
  wp_X0_isSheet  p1 (0 : Int32) (fun r_1 => (((r_1 = 0) → Q (-1 : Int32)) ∧ (¬ (r_1 = 0) → wp_X0_isSheet  p3 (0 : Int32) (fun r_3 => ((¬ (r_3 = 0) → (vp_in p1 4 ∧ (vp_in p3 4 ∧ Q (-11 : Int32)))) ∧ ((r_3 = 0) → Q (-1 : Int32)))))))
set_option maxHeartbeats 4000000 in
theorem mt_X0_copy_BN (l : Launch) (G : GT) (aS : Nat) (hfl : l.flags = pinnedFlags ++ [noTraceFlag]) (h h_kinds h_now h_fault h_tape h_got h_failing h_past h_aside h_best h_tried h_kept h_keptPast h_sheets h_sheets_x h_sheets_x_r h_sheets_y : Nat) (shf : Nat → Option Nat) (sz : Nat) (taped : Int32) (reads : Int32) (undoMany : Int32) (keptMany : Int32) (isKept : Int32) (rn : Nat) (rw : Nat → Int32) (p1 : Int32) (p2 : Int32) (p3 : Int32) (p4 : Int32) (p5 : Int32)(hsh : shf p1.toNatClampNeg = some h_sheets_x) (hsh2 : shf p3.toNatClampNeg = some h_sheets_y) (Q : Int32 → Prop) (hw : wp_X0_copy_BN rn rw p1 p2 p3 p4 p5 Q) : Met l yX0_copy (wsW_ yX0_copy cX0_copy 7 (some .int) [(18, 44, 47, 354), (18, 44, 52, 360), (18, 44, 57, 362)]) ({ frames := 9, cells := 3, slots := 1010, locals := 10248 } : Room) (va_Pc [.ref h, .int p1, .int p2, .int p3, .int p4, .int p5] (fun U => U.heap.size = sz ∧ va_P G.1 gCl [oc h 0 [.ref h_kinds, .ref h_now, .ref h_fault, .ref h_tape, .int taped, .int reads, .ref h_got, .ref h_failing, .ref h_past, .int undoMany, .ref h_aside, .ref h_best, .ref h_tried, .ref h_kept, .ref h_keptPast, .int keptMany, .int isKept, .ref h_sheets], arf G h_sheets 7 4 shf, oc h_sheets_x 8 [.ref h_sheets_x_r], ay G h_sheets_x_r rn rw, oc h_sheets_y 8 [.null]] U.heap ∧ gK G U ∧ va_D (fun _ => True) [oc h 0 [.ref h_kinds, .ref h_now, .ref h_fault, .ref h_tape, .int taped, .int reads, .ref h_got, .ref h_failing, .ref h_past, .int undoMany, .ref h_aside, .ref h_best, .ref h_tried, .ref h_kept, .ref h_keptPast, .int keptMany, .int isKept, .ref h_sheets], arf G h_sheets 7 4 shf, oc h_sheets_x 8 [.ref h_sheets_x_r], ay G h_sheets_x_r rn rw, oc h_sheets_y 8 [.null]] ∧ stS aS U)) ((fun A => (va_Qi (fun (r : Int32) (u : Unit) => Q r ) (fun u t => va_P G.1 gCl [oc h 0 [.ref h_kinds, .ref h_now, .ref h_fault, .ref h_tape, .int taped, .int reads, .ref h_got, .ref h_failing, .ref h_past, .int undoMany, .ref h_aside, .ref h_best, .ref h_tried, .ref h_kept, .ref h_keptPast, .int keptMany, .int isKept, .ref h_sheets], arf G h_sheets 7 4 shf, oc h_sheets_x 8 [.ref h_sheets_x_r], ay G h_sheets_x_r rn rw, oc h_sheets_y 8 [.null]] t.heap ∧ va_D A [oc h 0 [.ref h_kinds, .ref h_now, .ref h_fault, .ref h_tape, .int taped, .int reads, .ref h_got, .ref h_failing, .ref h_past, .int undoMany, .ref h_aside, .ref h_best, .ref h_tried, .ref h_kept, .ref h_keptPast, .int keptMany, .int isKept, .ref h_sheets], arf G h_sheets 7 4 shf, oc h_sheets_x 8 [.ref h_sheets_x_r], ay G h_sheets_x_r rn rw, oc h_sheets_y 8 [.null]]) A)) (va_A [oc h 0 [.ref h_kinds, .ref h_now, .ref h_fault, .ref h_tape, .int taped, .int reads, .ref h_got, .ref h_failing, .ref h_past, .int undoMany, .ref h_aside, .ref h_best, .ref h_tried, .ref h_kept, .ref h_keptPast, .int keptMany, .int isKept, .ref h_sheets], arf G h_sheets 7 4 shf, oc h_sheets_x 8 [.ref h_sheets_x_r], ay G h_sheets_x_r rn rw, oc h_sheets_y 8 [.null]] sz)) 3 1010 (va_A [oc h 0 [.ref h_kinds, .ref h_now, .ref h_fault, .ref h_tape, .int taped, .int reads, .ref h_got, .ref h_failing, .ref h_past, .int undoMany, .ref h_aside, .ref h_best, .ref h_tried, .ref h_kept, .ref h_keptPast, .int keptMany, .int isKept, .ref h_sheets], arf G h_sheets 7 4 shf, oc h_sheets_x 8 [.ref h_sheets_x_r], ay G h_sheets_x_r rn rw, oc h_sheets_y 8 [.null]] sz) := by
  refine va_MetW (hh := [(18, 44, 47, 354), (18, 44, 52, 360), (18, 44, 57, 362)]) (cc := cX0_copy) (maxL := 7) (ret := (some .int)) (by decide) rfl ?_
  intro p e s m args below meth c s₁ B hml hv
  obtain ⟨rfl, hsz, hP, hK, hD0, hst⟩ := hv
  have hx := B.exec
  have hb := B.bytes
  have hr := B.returns
  have hts := atoms_spec (ws := (wsW_ yX0_copy cX0_copy 7 (some .int) [(18, 44, 47, 354), (18, 44, 52, 360), (18, 44, 57, 362)])) B.pre
  have hts : ∀ w ∈ lw_all, w.before _ s = true := fun w h => hts w (List.mem_cons_of_mem _ h)
  have hown : s.vm.findClass RX0 = some m.cls := findClass_of_methodNamed B.named
  have hlocks := B.notSynchronized
  have hhd : c.exceptionTable.toList = [⟨18, 44, 47, 354⟩, ⟨18, 44, 52, 360⟩, ⟨18, 44, 57, 362⟩] := x_hand B (atoms_spec (ws := (wsW_ yX0_copy cX0_copy 7 (some .int) [(18, 44, 47, 354), (18, 44, 52, 360), (18, 44, 57, 362)])) B.pre _ List.mem_cons_self)
  subst hsz
  have hD := hD0.self (sz := s.heap.size)
  generalize hAe : va_A [oc h 0 [.ref h_kinds, .ref h_now, .ref h_fault, .ref h_tape, .int taped, .int reads, .ref h_got, .ref h_failing, .ref h_past, .int undoMany, .ref h_aside, .ref h_best, .ref h_tried, .ref h_kept, .ref h_keptPast, .int keptMany, .int isKept, .ref h_sheets], arf G h_sheets 7 4 shf, oc h_sheets_x 8 [.ref h_sheets_x_r], ay G h_sheets_x_r rn rw, oc h_sheets_y 8 [.null]] s.heap.size = A at hD ⊢
  have hA : ∀ q : Nat, s.heap.size ≤ q → A q := fun q h => by rw [← hAe]; exact Or.inr h
  have hS : va_S A s.heap s.heap [] := va_S.rf
  have hX : XCx l aS s A := ⟨hfl, hst, fun q cell hq hc => va_A.ns hP (by rw [hAe]; exact hq) hc⟩
  have C : Cx p s m meth c cX0_copy 7 (some .int) RX0 ([.ref h, .int p1, .int p2, .int p3, .int p4, .int p5] : List Value).toArray G A := ⟨hx, hb, hr, hlocks, hml, hown, hts, hK, hA⟩
  have hl := lv_entry ([.ref h, .int p1, .int p2, .int p3, .int p4, .int p5]) (n := 7) (Nat.le_of_ble_eq_true rfl)
  rw [lg_entry_eq]
  generalize (lg_sl ([.ref h, .int p1, .int p2, .int p3, .int p4, .int p5]) ++ List.replicate (7 - (lg_sl ([.ref h, .int p1, .int p2, .int p3, .int p4, .int p5])).length) Slot.unset).toArray = ls at hl ⊢
  have hl : lv_has ls 7 [(0, .ref h), (1, .int p1), (2, .int p2), (3, .int p3), (4, .int p4), (5, .int p5)] := hl
  unfold wp_X0_copy_BN at hw
  refine lv_iload_n hx hb dX0_copy_0 rfl (lv_at hl 1 rfl) ?_
  refine lv_iconst (v := (0 : Int32)) hx hb dX0_copy_1 (by decide) ?_
  have hPc := hP.sub (ws' := []) [] rfl
  have hDc := hD.sub (ws' := []) [] (by decide) rfl
  have hFc := va_free (wc := []) hD hS hA [] rfl
  refine va_calli (va_runS (As := [.int p1, .int (0 : Int32)]) (rest := []) ⟨hx, hb, hml, hown, hts⟩ (mt_X0_isSheet l G  s.heap.size  p1 (0 : Int32) _ hw) (va_cwS 2 hts (lw_S q648 q649 q54 q650) rfl rfl rfl (by decide +kernel) ⟨Nat.le_of_ble_eq_true rfl, Nat.le_of_ble_eq_true rfl⟩) ⟨fun a U g mk q => by obtain ⟨q0, q1, qP, qK, qD⟩ := q; exact ⟨q0, q1, qP, qK.call, qD⟩, fun U hU hW => ⟨rfl, by rw [hU], by rw [hU]; exact hPc, hK.warm hW, hDc.weaken (fun _ _ _ _ => trivial)⟩⟩ rfl rfl hl.1 rfl (lv_room (Nat.le_of_ble_eq_true rfl)) dX0_copy_2 ⟨Nat.le_of_ble_eq_true rfl, Nat.le_of_ble_eq_true rfl⟩) hS (fun q _ h => hFc q h) hFc (fun r_1 _ t H1 locs ht hvm hw hB hz1 hk1 hS => ?_)
  obtain ⟨hP1, hD1⟩ := hB
  rw [ht] at hP1
  obtain ⟨hP, hD⟩ := va_join (wr := [oc h 0 [.ref h_kinds, .ref h_now, .ref h_fault, .ref h_tape, .int taped, .int reads, .ref h_got, .ref h_failing, .ref h_past, .int undoMany, .ref h_aside, .ref h_best, .ref h_tried, .ref h_kept, .ref h_keptPast, .int keptMany, .int isKept, .ref h_sheets], arf G h_sheets 7 4 shf, oc h_sheets_x 8 [.ref h_sheets_x_r], ay G h_sheets_x_r rn rw, oc h_sheets_y 8 [.null]]) (w1 := []) hP hD [] [0, 1, 2, 3, 4] rfl rfl (by decide) (by decide) hk1 hFc hP1 hD1
  clear hPc hDc hFc hP1 hD1 hz1 hk1 hvm
  generalize H1 = H at hP hS ⊢
  have hP : va_P G.1 gCl [oc h 0 [.ref h_kinds, .ref h_now, .ref h_fault, .ref h_tape, .int taped, .int reads, .ref h_got, .ref h_failing, .ref h_past, .int undoMany, .ref h_aside, .ref h_best, .ref h_tried, .ref h_kept, .ref h_keptPast, .int keptMany, .int isKept, .ref h_sheets], arf G h_sheets 7 4 shf, oc h_sheets_x 8 [.ref h_sheets_x_r], ay G h_sheets_x_r rn rw, oc h_sheets_y 8 [.null]] H := hP
  have hD : va_D A [oc h 0 [.ref h_kinds, .ref h_now, .ref h_fault, .ref h_tape, .int taped, .int reads, .ref h_got, .ref h_failing, .ref h_past, .int undoMany, .ref h_aside, .ref h_best, .ref h_tried, .ref h_kept, .ref h_keptPast, .int keptMany, .int isKept, .ref h_sheets], arf G h_sheets 7 4 shf, oc h_sheets_x 8 [.ref h_sheets_x_r], ay G h_sheets_x_r rn rw, oc h_sheets_y 8 [.null]] := hD
  refine lv_if_eq (tgt := 16) hx hb dX0_copy_5 (by decide) (fun c_2 => ?_) (fun c_2 => ?_)
  · replace hw := hw.1 c_2
    refine lv_iconst (v := (-1 : Int32)) hx hb dX0_copy_16 (by decide) ?_
    have hP9 := hP
    have hD9 := hD
    exact w_widen (k := 3) (n := 1010) (by first | exact Nat.le_of_ble_eq_true rfl | omega) (by first | exact Nat.le_of_ble_eq_true rfl | omega) (W.iret (v := (-1 : Int32)) hx hb hr (fun t ht hW => ⟨⟨(-1 : Int32), (), rfl, hw, by rw [ht]; exact hP9, hD9⟩, hS.F ht⟩) hS.2.2 dX0_copy_17)
  · replace hw := hw.2 c_2
    refine lv_iload_n hx hb dX0_copy_8 rfl (lv_at hl 3 rfl) ?_
    refine lv_iconst (v := (0 : Int32)) hx hb dX0_copy_9 (by decide) ?_
    have hPc := hP.sub (ws' := []) [] rfl
    have hDc := hD.sub (ws' := []) [] (by decide) rfl
    have hFc := va_free (wc := []) hD hS hA [] rfl
    refine va_calli (va_runS (As := [.int p3, .int (0 : Int32)]) (rest := []) ⟨hx, hb, hml, hown, hts⟩ (mt_X0_isSheet l G  H.size  p3 (0 : Int32) _ hw) (va_cwS 2 hts (lw_S q648 q649 q54 q650) rfl rfl rfl (by decide +kernel) ⟨Nat.le_of_ble_eq_true rfl, Nat.le_of_ble_eq_true rfl⟩) ⟨fun a U g mk q => by obtain ⟨q0, q1, qP, qK, qD⟩ := q; exact ⟨q0, q1, qP, qK.call, qD⟩, fun U hU hW => ⟨rfl, by rw [hU], by rw [hU]; exact hPc, hK.warm hW, hDc.weaken (fun _ _ _ _ => trivial)⟩⟩ rfl rfl hl.1 rfl (lv_room (Nat.le_of_ble_eq_true rfl)) dX0_copy_10 ⟨Nat.le_of_ble_eq_true rfl, Nat.le_of_ble_eq_true rfl⟩) hS (fun q _ h => hFc q h) hFc (fun r_3 _ t H1 locs ht hvm hw hB hz1 hk1 hS => ?_)
    obtain ⟨hP1, hD1⟩ := hB
    rw [ht] at hP1
    obtain ⟨hP, hD⟩ := va_join (wr := [oc h 0 [.ref h_kinds, .ref h_now, .ref h_fault, .ref h_tape, .int taped, .int reads, .ref h_got, .ref h_failing, .ref h_past, .int undoMany, .ref h_aside, .ref h_best, .ref h_tried, .ref h_kept, .ref h_keptPast, .int keptMany, .int isKept, .ref h_sheets], arf G h_sheets 7 4 shf, oc h_sheets_x 8 [.ref h_sheets_x_r], ay G h_sheets_x_r rn rw, oc h_sheets_y 8 [.null]]) (w1 := []) hP hD [] [0, 1, 2, 3, 4] rfl rfl (by decide) (by decide) hk1 hFc hP1 hD1
    clear hPc hDc hFc hP1 hD1 hz1 hk1 hvm
    generalize H1 = H at hP hS ⊢
    have hP : va_P G.1 gCl [oc h 0 [.ref h_kinds, .ref h_now, .ref h_fault, .ref h_tape, .int taped, .int reads, .ref h_got, .ref h_failing, .ref h_past, .int undoMany, .ref h_aside, .ref h_best, .ref h_tried, .ref h_kept, .ref h_keptPast, .int keptMany, .int isKept, .ref h_sheets], arf G h_sheets 7 4 shf, oc h_sheets_x 8 [.ref h_sheets_x_r], ay G h_sheets_x_r rn rw, oc h_sheets_y 8 [.null]] H := hP
    have hD : va_D A [oc h 0 [.ref h_kinds, .ref h_now, .ref h_fault, .ref h_tape, .int taped, .int reads, .ref h_got, .ref h_failing, .ref h_past, .int undoMany, .ref h_aside, .ref h_best, .ref h_tried, .ref h_kept, .ref h_keptPast, .int keptMany, .int isKept, .ref h_sheets], arf G h_sheets 7 4 shf, oc h_sheets_x 8 [.ref h_sheets_x_r], ay G h_sheets_x_r rn rw, oc h_sheets_y 8 [.null]] := hD
    refine lv_if_ne (tgt := 18) hx hb dX0_copy_13 (by decide) (fun c_4 => ?_) (fun c_4 => ?_)
    · replace hw := hw.1 c_4
      refine lv_aload_n hx hb dX0_copy_18 rfl (lv_at hl 0 rfl) ?_
      refine va_get (D := G.1) (ci := 0) (v := .ref h_sheets) (C := RX0) (T := TX0) (N := 18) hx hb hts in_X0 hown hK.1 hP 0 rfl rfl 17 (by decide) (hts _ q273) (fun _ h9 => h9) rfl dX0_copy_19 ?_
      refine lv_iload_n hx hb dX0_copy_22 rfl (lv_at hl 1 rfl) ?_
      obtain ⟨i_5, hw⟩ := hw
      refine z_aaldS hx hb hK.1 hP 1 7 rfl rfl i_5 dX0_copy_23 hsh ?_
      refine va_getN (D := G.1) (ci := 8) (v := .ref h_sheets_x_r) (C := RX8) (T := TX8) (N := 1) hx hb hts in_X8 hown hK.1 hP 2 rfl rfl 0 (by decide) (hK.n q251 rfl) (fun _ h9 => h9) rfl dX0_copy_24 ?_
      refine lv_iload_n hx hb dX0_copy_27 rfl (lv_at hl 2 rfl) ?_
      refine lv_aload_n hx hb dX0_copy_28 rfl (lv_at hl 0 rfl) ?_
      refine va_get (D := G.1) (ci := 0) (v := .ref h_sheets) (C := RX0) (T := TX0) (N := 18) hx hb hts in_X0 hown hK.1 hP 0 rfl rfl 17 (by decide) (hts _ q273) (fun _ h9 => h9) rfl dX0_copy_29 ?_
      refine lv_iload_n hx hb dX0_copy_32 rfl (lv_at hl 3 rfl) ?_
      obtain ⟨i_6, hw⟩ := hw
      refine z_aaldS hx hb hK.1 hP 1 7 rfl rfl i_6 dX0_copy_33 hsh2 ?_
      refine va_getN (D := G.1) (ci := 8) (v := .null) (C := RX8) (T := TX8) (N := 1) hx hb hts in_X8 hown hK.1 hP 4 rfl rfl 0 (by decide) (hK.n q251 rfl) (fun _ h9 => h9) rfl dX0_copy_34 ?_
      refine lv_iload hx hb dX0_copy_37 (lv_at hl 4 rfl) ?_
      refine lv_iload hx hb dX0_copy_39 (lv_at hl 5 rfl) ?_
      refine w_cpNull (a := (some h_sheets_x_r)) (b := none) (rest := []) ⟨hx, hb, hml.trans hl.1.symm, hts, hK, hX, hS, hP, hown, hts _ q512, hts _ q440, hts _ q439, hts _ q68, dX0_copy_41, Nat.le_of_ble_eq_true rfl, Nat.le_of_ble_eq_true rfl, Nat.le_of_ble_eq_true rfl, Nat.le_of_ble_eq_true rfl, Nat.le_of_ble_eq_true rfl⟩ (Or.inr rfl) (fun x_7 H hxo hP hS hz hk => ?_)
      obtain ⟨ce, hce, hcv, hcc⟩ := hxo
      refine wx_catch (cell := ce) hce (by rw [hcv]; rfl) [] ⟨18, 44, 47, 354⟩ [⟨18, 44, 52, 360⟩, ⟨18, 44, 57, 362⟩] hhd (fun _ _ z hz => by cases hz) (by decide) (by decide) hown (hts _ q734) (cT := ce.cls) hcc (vm_refl (args := #[]) (hK.n q756 rfl) hcc) ?_
      refine lv_astore (lv' := [(6, .ref x_7), (0, .ref h), (1, .int p1), (2, .int p2), (3, .int p3), (4, .int p4), (5, .int p5)]) hx hb dX0_copy_47 hl (by decide) rfl (fun ls hl => ?_)
      refine lv_bipush (v := (-11 : Int32)) hx hb dX0_copy_49 (by decide) ?_
      have hP9 := hP
      have hD9 := hD
      exact w_widen (k := 3) (n := 1010) (by first | exact Nat.le_of_ble_eq_true rfl | omega) (by first | exact Nat.le_of_ble_eq_true rfl | omega) (W.iret (v := (-11 : Int32)) hx hb hr (fun t ht hW => ⟨⟨(-11 : Int32), (), rfl, hw, by rw [ht]; exact hP9, hD9⟩, hS.F ht⟩) hS.2.2 dX0_copy_51)
    · replace hw := hw.2 c_4
      refine lv_iconst (v := (-1 : Int32)) hx hb dX0_copy_16 (by decide) ?_
      have hP9 := hP
      have hD9 := hD
      exact w_widen (k := 3) (n := 1010) (by first | exact Nat.le_of_ble_eq_true rfl | omega) (by first | exact Nat.le_of_ble_eq_true rfl | omega) (W.iret (v := (-1 : Int32)) hx hb hr (fun t ht hW => ⟨⟨(-1 : Int32), (), rfl, hw, by rw [ht]; exact hP9, hD9⟩, hS.F ht⟩) hS.2.2 dX0_copy_17)
/-! BattleBench.copy(IIIII)I -/
def wp_X0_copy_Be (rn : Nat) (rw : Nat → Int32) (p1 : Int32) (p2 : Int32) (p3 : Int32) (p4 : Int32) (p5 : Int32) (Q : Int32 → ((Nat → Int32)) → Prop) : Prop :=
  wp_X0_isSheet  p1 (0 : Int32) (fun r_1 => (((r_1 = 0) → Q (-1 : Int32) rw) ∧ (¬ (r_1 = 0) → wp_X0_isSheet  p3 (0 : Int32) (fun r_3 => ((¬ (r_3 = 0) → (vp_in p1 4 ∧ (vp_in p3 4 ∧ ((cpOk p2 p4 p5 rn rn → ((∀ i, i < p5.toNatClampNeg → fits .byte (.int (rw (p2.toNatClampNeg + i))) = true) ∧ ∀ f_9 : Nat → Int32, f_9 = va_cpy rw rw p2.toNatClampNeg p4.toNatClampNeg p5.toNatClampNeg → Q p5 f_9)) ∧ (¬ cpOk p2 p4 p5 rn rn → (rn < 2147483648 ∧ rn < 2147483648 ∧ Q (-13 : Int32) rw)))))) ∧ ((r_3 = 0) → Q (-1 : Int32) rw))))))
set_option maxHeartbeats 4000000 in
theorem mt_X0_copy_Be (l : Launch) (G : GT) (aS : Nat) (hfl : l.flags = pinnedFlags ++ [noTraceFlag]) (h h_kinds h_now h_fault h_tape h_got h_failing h_past h_aside h_best h_tried h_kept h_keptPast h_sheets h_sheets_x h_sheets_x_r : Nat) (shf : Nat → Option Nat) (sz : Nat) (taped : Int32) (reads : Int32) (undoMany : Int32) (keptMany : Int32) (isKept : Int32) (rn : Nat) (rw : Nat → Int32) (p1 : Int32) (p2 : Int32) (p3 : Int32) (p4 : Int32) (p5 : Int32)(hsh : shf p1.toNatClampNeg = some h_sheets_x) (hsh2 : shf p3.toNatClampNeg = some h_sheets_x) (Q : Int32 → ((Nat → Int32)) → Prop) (hw : wp_X0_copy_Be rn rw p1 p2 p3 p4 p5 Q) : Met l yX0_copy (wsW_ yX0_copy cX0_copy 7 (some .int) [(18, 44, 47, 354), (18, 44, 52, 360), (18, 44, 57, 362)]) ({ frames := 9, cells := 3, slots := 1010, locals := 10248 } : Room) (va_Pc [.ref h, .int p1, .int p2, .int p3, .int p4, .int p5] (fun U => U.heap.size = sz ∧ va_P G.1 gCl [oc h 0 [.ref h_kinds, .ref h_now, .ref h_fault, .ref h_tape, .int taped, .int reads, .ref h_got, .ref h_failing, .ref h_past, .int undoMany, .ref h_aside, .ref h_best, .ref h_tried, .ref h_kept, .ref h_keptPast, .int keptMany, .int isKept, .ref h_sheets], arf G h_sheets 7 4 shf, oc h_sheets_x 8 [.ref h_sheets_x_r], ay G h_sheets_x_r rn rw] U.heap ∧ gK G U ∧ va_D (fun _ => True) [oc h 0 [.ref h_kinds, .ref h_now, .ref h_fault, .ref h_tape, .int taped, .int reads, .ref h_got, .ref h_failing, .ref h_past, .int undoMany, .ref h_aside, .ref h_best, .ref h_tried, .ref h_kept, .ref h_keptPast, .int keptMany, .int isKept, .ref h_sheets], arf G h_sheets 7 4 shf, oc h_sheets_x 8 [.ref h_sheets_x_r], ay G h_sheets_x_r rn rw] ∧ stS aS U)) ((fun A => (va_Qi (fun (r : Int32) (u : (Nat → Int32)) => Q r u) (fun u t => va_P G.1 gCl [oc h 0 [.ref h_kinds, .ref h_now, .ref h_fault, .ref h_tape, .int taped, .int reads, .ref h_got, .ref h_failing, .ref h_past, .int undoMany, .ref h_aside, .ref h_best, .ref h_tried, .ref h_kept, .ref h_keptPast, .int keptMany, .int isKept, .ref h_sheets], arf G h_sheets 7 4 shf, oc h_sheets_x 8 [.ref h_sheets_x_r], ay G h_sheets_x_r rn u] t.heap ∧ va_D A [oc h 0 [.ref h_kinds, .ref h_now, .ref h_fault, .ref h_tape, .int taped, .int reads, .ref h_got, .ref h_failing, .ref h_past, .int undoMany, .ref h_aside, .ref h_best, .ref h_tried, .ref h_kept, .ref h_keptPast, .int keptMany, .int isKept, .ref h_sheets], arf G h_sheets 7 4 shf, oc h_sheets_x 8 [.ref h_sheets_x_r], ay G h_sheets_x_r rn u]) A)) (va_A [oc h 0 [.ref h_kinds, .ref h_now, .ref h_fault, .ref h_tape, .int taped, .int reads, .ref h_got, .ref h_failing, .ref h_past, .int undoMany, .ref h_aside, .ref h_best, .ref h_tried, .ref h_kept, .ref h_keptPast, .int keptMany, .int isKept, .ref h_sheets], arf G h_sheets 7 4 shf, oc h_sheets_x 8 [.ref h_sheets_x_r], ay G h_sheets_x_r rn rw] sz)) 3 1010 (va_A [oc h 0 [.ref h_kinds, .ref h_now, .ref h_fault, .ref h_tape, .int taped, .int reads, .ref h_got, .ref h_failing, .ref h_past, .int undoMany, .ref h_aside, .ref h_best, .ref h_tried, .ref h_kept, .ref h_keptPast, .int keptMany, .int isKept, .ref h_sheets], arf G h_sheets 7 4 shf, oc h_sheets_x 8 [.ref h_sheets_x_r], ay G h_sheets_x_r rn rw] sz) := by
  refine va_MetW (hh := [(18, 44, 47, 354), (18, 44, 52, 360), (18, 44, 57, 362)]) (cc := cX0_copy) (maxL := 7) (ret := (some .int)) (by decide) rfl ?_
  intro p e s m args below meth c s₁ B hml hv
  obtain ⟨rfl, hsz, hP, hK, hD0, hst⟩ := hv
  have hx := B.exec
  have hb := B.bytes
  have hr := B.returns
  have hts := atoms_spec (ws := (wsW_ yX0_copy cX0_copy 7 (some .int) [(18, 44, 47, 354), (18, 44, 52, 360), (18, 44, 57, 362)])) B.pre
  have hts : ∀ w ∈ lw_all, w.before _ s = true := fun w h => hts w (List.mem_cons_of_mem _ h)
  have hown : s.vm.findClass RX0 = some m.cls := findClass_of_methodNamed B.named
  have hlocks := B.notSynchronized
  have hhd : c.exceptionTable.toList = [⟨18, 44, 47, 354⟩, ⟨18, 44, 52, 360⟩, ⟨18, 44, 57, 362⟩] := x_hand B (atoms_spec (ws := (wsW_ yX0_copy cX0_copy 7 (some .int) [(18, 44, 47, 354), (18, 44, 52, 360), (18, 44, 57, 362)])) B.pre _ List.mem_cons_self)
  subst hsz
  have hD := hD0.self (sz := s.heap.size)
  generalize hAe : va_A [oc h 0 [.ref h_kinds, .ref h_now, .ref h_fault, .ref h_tape, .int taped, .int reads, .ref h_got, .ref h_failing, .ref h_past, .int undoMany, .ref h_aside, .ref h_best, .ref h_tried, .ref h_kept, .ref h_keptPast, .int keptMany, .int isKept, .ref h_sheets], arf G h_sheets 7 4 shf, oc h_sheets_x 8 [.ref h_sheets_x_r], ay G h_sheets_x_r rn rw] s.heap.size = A at hD ⊢
  have hA : ∀ q : Nat, s.heap.size ≤ q → A q := fun q h => by rw [← hAe]; exact Or.inr h
  have hS : va_S A s.heap s.heap [] := va_S.rf
  have hX : XCx l aS s A := ⟨hfl, hst, fun q cell hq hc => va_A.ns hP (by rw [hAe]; exact hq) hc⟩
  have C : Cx p s m meth c cX0_copy 7 (some .int) RX0 ([.ref h, .int p1, .int p2, .int p3, .int p4, .int p5] : List Value).toArray G A := ⟨hx, hb, hr, hlocks, hml, hown, hts, hK, hA⟩
  have hl := lv_entry ([.ref h, .int p1, .int p2, .int p3, .int p4, .int p5]) (n := 7) (Nat.le_of_ble_eq_true rfl)
  rw [lg_entry_eq]
  generalize (lg_sl ([.ref h, .int p1, .int p2, .int p3, .int p4, .int p5]) ++ List.replicate (7 - (lg_sl ([.ref h, .int p1, .int p2, .int p3, .int p4, .int p5])).length) Slot.unset).toArray = ls at hl ⊢
  have hl : lv_has ls 7 [(0, .ref h), (1, .int p1), (2, .int p2), (3, .int p3), (4, .int p4), (5, .int p5)] := hl
  unfold wp_X0_copy_Be at hw
  refine lv_iload_n hx hb dX0_copy_0 rfl (lv_at hl 1 rfl) ?_
  refine lv_iconst (v := (0 : Int32)) hx hb dX0_copy_1 (by decide) ?_
  have hPc := hP.sub (ws' := []) [] rfl
  have hDc := hD.sub (ws' := []) [] (by decide) rfl
  have hFc := va_free (wc := []) hD hS hA [] rfl
  refine va_calli (va_runS (As := [.int p1, .int (0 : Int32)]) (rest := []) ⟨hx, hb, hml, hown, hts⟩ (mt_X0_isSheet l G  s.heap.size  p1 (0 : Int32) _ hw) (va_cwS 2 hts (lw_S q648 q649 q54 q650) rfl rfl rfl (by decide +kernel) ⟨Nat.le_of_ble_eq_true rfl, Nat.le_of_ble_eq_true rfl⟩) ⟨fun a U g mk q => by obtain ⟨q0, q1, qP, qK, qD⟩ := q; exact ⟨q0, q1, qP, qK.call, qD⟩, fun U hU hW => ⟨rfl, by rw [hU], by rw [hU]; exact hPc, hK.warm hW, hDc.weaken (fun _ _ _ _ => trivial)⟩⟩ rfl rfl hl.1 rfl (lv_room (Nat.le_of_ble_eq_true rfl)) dX0_copy_2 ⟨Nat.le_of_ble_eq_true rfl, Nat.le_of_ble_eq_true rfl⟩) hS (fun q _ h => hFc q h) hFc (fun r_1 _ t H1 locs ht hvm hw hB hz1 hk1 hS => ?_)
  obtain ⟨hP1, hD1⟩ := hB
  rw [ht] at hP1
  obtain ⟨hP, hD⟩ := va_join (wr := [oc h 0 [.ref h_kinds, .ref h_now, .ref h_fault, .ref h_tape, .int taped, .int reads, .ref h_got, .ref h_failing, .ref h_past, .int undoMany, .ref h_aside, .ref h_best, .ref h_tried, .ref h_kept, .ref h_keptPast, .int keptMany, .int isKept, .ref h_sheets], arf G h_sheets 7 4 shf, oc h_sheets_x 8 [.ref h_sheets_x_r], ay G h_sheets_x_r rn rw]) (w1 := []) hP hD [] [0, 1, 2, 3] rfl rfl (by decide) (by decide) hk1 hFc hP1 hD1
  clear hPc hDc hFc hP1 hD1 hz1 hk1 hvm
  generalize H1 = H at hP hS ⊢
  have hP : va_P G.1 gCl [oc h 0 [.ref h_kinds, .ref h_now, .ref h_fault, .ref h_tape, .int taped, .int reads, .ref h_got, .ref h_failing, .ref h_past, .int undoMany, .ref h_aside, .ref h_best, .ref h_tried, .ref h_kept, .ref h_keptPast, .int keptMany, .int isKept, .ref h_sheets], arf G h_sheets 7 4 shf, oc h_sheets_x 8 [.ref h_sheets_x_r], ay G h_sheets_x_r rn rw] H := hP
  have hD : va_D A [oc h 0 [.ref h_kinds, .ref h_now, .ref h_fault, .ref h_tape, .int taped, .int reads, .ref h_got, .ref h_failing, .ref h_past, .int undoMany, .ref h_aside, .ref h_best, .ref h_tried, .ref h_kept, .ref h_keptPast, .int keptMany, .int isKept, .ref h_sheets], arf G h_sheets 7 4 shf, oc h_sheets_x 8 [.ref h_sheets_x_r], ay G h_sheets_x_r rn rw] := hD
  refine lv_if_eq (tgt := 16) hx hb dX0_copy_5 (by decide) (fun c_2 => ?_) (fun c_2 => ?_)
  · replace hw := hw.1 c_2
    refine lv_iconst (v := (-1 : Int32)) hx hb dX0_copy_16 (by decide) ?_
    have hP9 := hP
    have hD9 := hD
    exact w_widen (k := 3) (n := 1010) (by first | exact Nat.le_of_ble_eq_true rfl | omega) (by first | exact Nat.le_of_ble_eq_true rfl | omega) (W.iret (v := (-1 : Int32)) hx hb hr (fun t ht hW => ⟨⟨(-1 : Int32), rw, rfl, hw, by rw [ht]; exact hP9, hD9⟩, hS.F ht⟩) hS.2.2 dX0_copy_17)
  · replace hw := hw.2 c_2
    refine lv_iload_n hx hb dX0_copy_8 rfl (lv_at hl 3 rfl) ?_
    refine lv_iconst (v := (0 : Int32)) hx hb dX0_copy_9 (by decide) ?_
    have hPc := hP.sub (ws' := []) [] rfl
    have hDc := hD.sub (ws' := []) [] (by decide) rfl
    have hFc := va_free (wc := []) hD hS hA [] rfl
    refine va_calli (va_runS (As := [.int p3, .int (0 : Int32)]) (rest := []) ⟨hx, hb, hml, hown, hts⟩ (mt_X0_isSheet l G  H.size  p3 (0 : Int32) _ hw) (va_cwS 2 hts (lw_S q648 q649 q54 q650) rfl rfl rfl (by decide +kernel) ⟨Nat.le_of_ble_eq_true rfl, Nat.le_of_ble_eq_true rfl⟩) ⟨fun a U g mk q => by obtain ⟨q0, q1, qP, qK, qD⟩ := q; exact ⟨q0, q1, qP, qK.call, qD⟩, fun U hU hW => ⟨rfl, by rw [hU], by rw [hU]; exact hPc, hK.warm hW, hDc.weaken (fun _ _ _ _ => trivial)⟩⟩ rfl rfl hl.1 rfl (lv_room (Nat.le_of_ble_eq_true rfl)) dX0_copy_10 ⟨Nat.le_of_ble_eq_true rfl, Nat.le_of_ble_eq_true rfl⟩) hS (fun q _ h => hFc q h) hFc (fun r_3 _ t H1 locs ht hvm hw hB hz1 hk1 hS => ?_)
    obtain ⟨hP1, hD1⟩ := hB
    rw [ht] at hP1
    obtain ⟨hP, hD⟩ := va_join (wr := [oc h 0 [.ref h_kinds, .ref h_now, .ref h_fault, .ref h_tape, .int taped, .int reads, .ref h_got, .ref h_failing, .ref h_past, .int undoMany, .ref h_aside, .ref h_best, .ref h_tried, .ref h_kept, .ref h_keptPast, .int keptMany, .int isKept, .ref h_sheets], arf G h_sheets 7 4 shf, oc h_sheets_x 8 [.ref h_sheets_x_r], ay G h_sheets_x_r rn rw]) (w1 := []) hP hD [] [0, 1, 2, 3] rfl rfl (by decide) (by decide) hk1 hFc hP1 hD1
    clear hPc hDc hFc hP1 hD1 hz1 hk1 hvm
    generalize H1 = H at hP hS ⊢
    have hP : va_P G.1 gCl [oc h 0 [.ref h_kinds, .ref h_now, .ref h_fault, .ref h_tape, .int taped, .int reads, .ref h_got, .ref h_failing, .ref h_past, .int undoMany, .ref h_aside, .ref h_best, .ref h_tried, .ref h_kept, .ref h_keptPast, .int keptMany, .int isKept, .ref h_sheets], arf G h_sheets 7 4 shf, oc h_sheets_x 8 [.ref h_sheets_x_r], ay G h_sheets_x_r rn rw] H := hP
    have hD : va_D A [oc h 0 [.ref h_kinds, .ref h_now, .ref h_fault, .ref h_tape, .int taped, .int reads, .ref h_got, .ref h_failing, .ref h_past, .int undoMany, .ref h_aside, .ref h_best, .ref h_tried, .ref h_kept, .ref h_keptPast, .int keptMany, .int isKept, .ref h_sheets], arf G h_sheets 7 4 shf, oc h_sheets_x 8 [.ref h_sheets_x_r], ay G h_sheets_x_r rn rw] := hD
    refine lv_if_ne (tgt := 18) hx hb dX0_copy_13 (by decide) (fun c_4 => ?_) (fun c_4 => ?_)
    · replace hw := hw.1 c_4
      refine lv_aload_n hx hb dX0_copy_18 rfl (lv_at hl 0 rfl) ?_
      refine va_get (D := G.1) (ci := 0) (v := .ref h_sheets) (C := RX0) (T := TX0) (N := 18) hx hb hts in_X0 hown hK.1 hP 0 rfl rfl 17 (by decide) (hts _ q273) (fun _ h9 => h9) rfl dX0_copy_19 ?_
      refine lv_iload_n hx hb dX0_copy_22 rfl (lv_at hl 1 rfl) ?_
      obtain ⟨i_5, hw⟩ := hw
      refine z_aaldS hx hb hK.1 hP 1 7 rfl rfl i_5 dX0_copy_23 hsh ?_
      refine va_getN (D := G.1) (ci := 8) (v := .ref h_sheets_x_r) (C := RX8) (T := TX8) (N := 1) hx hb hts in_X8 hown hK.1 hP 2 rfl rfl 0 (by decide) (hK.n q251 rfl) (fun _ h9 => h9) rfl dX0_copy_24 ?_
      refine lv_iload_n hx hb dX0_copy_27 rfl (lv_at hl 2 rfl) ?_
      refine lv_aload_n hx hb dX0_copy_28 rfl (lv_at hl 0 rfl) ?_
      refine va_get (D := G.1) (ci := 0) (v := .ref h_sheets) (C := RX0) (T := TX0) (N := 18) hx hb hts in_X0 hown hK.1 hP 0 rfl rfl 17 (by decide) (hts _ q273) (fun _ h9 => h9) rfl dX0_copy_29 ?_
      refine lv_iload_n hx hb dX0_copy_32 rfl (lv_at hl 3 rfl) ?_
      obtain ⟨i_6, hw⟩ := hw
      refine z_aaldS hx hb hK.1 hP 1 7 rfl rfl i_6 dX0_copy_33 hsh2 ?_
      refine va_getN (D := G.1) (ci := 8) (v := .ref h_sheets_x_r) (C := RX8) (T := TX8) (N := 1) hx hb hts in_X8 hown hK.1 hP 2 rfl rfl 0 (by decide) (hK.n q251 rfl) (fun _ h9 => h9) rfl dX0_copy_34 ?_
      refine lv_iload hx hb dX0_copy_37 (lv_at hl 4 rfl) ?_
      refine lv_iload hx hb dX0_copy_39 (lv_at hl 5 rfl) ?_
      by_cases c_8 : cpOk p2 p4 p5 rn rn
      · replace hw := hw.1 c_8
        obtain ⟨i_10, hw⟩ := hw
        refine z_cpI hx hb (hml.trans hl.1.symm) hown (hts _ q512) (hts _ q440) (hts _ q439) (hts _ q68) hK.1 hP hD hS 3 3 3 rfl rfl rfl rfl rfl c_8 i_10 (Nat.le_of_ble_eq_true rfl) (Nat.le_of_ble_eq_true rfl) dX0_copy_41 (fun f_9 ef_9 H locs hP hD hS => ?_)
        replace hw := hw f_9 ef_9
        have hP : va_P G.1 gCl [oc h 0 [.ref h_kinds, .ref h_now, .ref h_fault, .ref h_tape, .int taped, .int reads, .ref h_got, .ref h_failing, .ref h_past, .int undoMany, .ref h_aside, .ref h_best, .ref h_tried, .ref h_kept, .ref h_keptPast, .int keptMany, .int isKept, .ref h_sheets], arf G h_sheets 7 4 shf, oc h_sheets_x 8 [.ref h_sheets_x_r], ay G h_sheets_x_r rn f_9] H := hP
        have hD : va_D A [oc h 0 [.ref h_kinds, .ref h_now, .ref h_fault, .ref h_tape, .int taped, .int reads, .ref h_got, .ref h_failing, .ref h_past, .int undoMany, .ref h_aside, .ref h_best, .ref h_tried, .ref h_kept, .ref h_keptPast, .int keptMany, .int isKept, .ref h_sheets], arf G h_sheets 7 4 shf, oc h_sheets_x 8 [.ref h_sheets_x_r], ay G h_sheets_x_r rn f_9] := hD
        refine lv_goto (tgt := 62) hx hb dX0_copy_44 (by decide) ?_
        refine lv_iload hx hb dX0_copy_62 (lv_at hl 5 rfl) ?_
        have hP9 := hP
        have hD9 := hD
        exact w_widen (k := 3) (n := 1010) (by first | exact Nat.le_of_ble_eq_true rfl | omega) (by first | exact Nat.le_of_ble_eq_true rfl | omega) (W.iret (v := p5) hx hb hr (fun t ht hW => ⟨⟨p5, f_9, rfl, hw, by rw [ht]; exact hP9, hD9⟩, hS.F ht⟩) hS.2.2 dX0_copy_64)
      · obtain ⟨h31, h32, hw⟩ := hw.2 c_8
        refine w_cpOut (rest := []) ⟨hx, hb, hml.trans hl.1.symm, hts, hK, hX, hS, hP, hown, hts _ q512, hts _ q440, hts _ q439, hts _ q68, dX0_copy_41, Nat.le_of_ble_eq_true rfl, Nat.le_of_ble_eq_true rfl, Nat.le_of_ble_eq_true rfl, Nat.le_of_ble_eq_true rfl, Nat.le_of_ble_eq_true rfl⟩ 3 3 3 3 rfl rfl rfl rfl h31 h32 c_8 (fun x_7 H hxo hP hS hz hk => ?_)
        obtain ⟨ce, hce, hcv, hcc⟩ := hxo
        obtain ⟨c1, cT, hc1, hcT, hfit⟩ := Cond.castable_spec (args := #[]) (hK.n (args := #[]) q1127 rfl)
        cases hc1.symm.trans hcc
        refine wx_catch (cell := ce) hce (by rw [hcv]; rfl) [⟨18, 44, 47, 354⟩, ⟨18, 44, 52, 360⟩] ⟨18, 44, 57, 362⟩ [] hhd (fun pl hpl z hz => (List.forall_mem_cons.mpr ⟨x_pass (z := ⟨18, 44, 47, 354⟩) (by decide) (by decide) hown (hts _ q734) (hK.2.2 ("java/lang/ArrayIndexOutOfBoundsException", "java/lang/NullPointerException") (by decide +kernel)) hcc pl hpl, (List.forall_mem_cons.mpr ⟨x_pass (z := ⟨18, 44, 52, 360⟩) (by decide) (by decide) hown (hts _ q796) (hK.2.2 ("java/lang/ArrayIndexOutOfBoundsException", "java/lang/ArrayStoreException") (by decide +kernel)) hcc pl hpl, fun _ h9 => absurd h9 List.not_mem_nil⟩)⟩) z hz) (by decide) (by decide) hown (hts _ q810) (cT := cT) hcT hfit ?_
        refine lv_astore (lv' := [(6, .ref x_7), (0, .ref h), (1, .int p1), (2, .int p2), (3, .int p3), (4, .int p4), (5, .int p5)]) hx hb dX0_copy_57 hl (by decide) rfl (fun ls hl => ?_)
        refine lv_bipush (v := (-13 : Int32)) hx hb dX0_copy_59 (by decide) ?_
        have hP9 := hP
        have hD9 := hD
        exact w_widen (k := 3) (n := 1010) (by first | exact Nat.le_of_ble_eq_true rfl | omega) (by first | exact Nat.le_of_ble_eq_true rfl | omega) (W.iret (v := (-13 : Int32)) hx hb hr (fun t ht hW => ⟨⟨(-13 : Int32), rw, rfl, hw, by rw [ht]; exact hP9, hD9⟩, hS.F ht⟩) hS.2.2 dX0_copy_61)
    · replace hw := hw.2 c_4
      refine lv_iconst (v := (-1 : Int32)) hx hb dX0_copy_16 (by decide) ?_
      have hP9 := hP
      have hD9 := hD
      exact w_widen (k := 3) (n := 1010) (by first | exact Nat.le_of_ble_eq_true rfl | omega) (by first | exact Nat.le_of_ble_eq_true rfl | omega) (W.iret (v := (-1 : Int32)) hx hb hr (fun t ht hW => ⟨⟨(-1 : Int32), rw, rfl, hw, by rw [ht]; exact hP9, hD9⟩, hS.F ht⟩) hS.2.2 dX0_copy_17)
/-! BattleBench.copy(IIIII)I -/
def wp_X0_copy_SB (rn : Nat) (rw : Nat → Int32) (rn2 : Nat) (rw2 : Nat → Int32) (p1 : Int32) (p2 : Int32) (p3 : Int32) (p4 : Int32) (p5 : Int32) (Q : Int32 → Prop) : Prop :=
  wp_X0_isSheet  p1 (0 : Int32) (fun r_1 => (((r_1 = 0) → Q (-1 : Int32)) ∧ (¬ (r_1 = 0) → wp_X0_isSheet  p3 (0 : Int32) (fun r_3 => ((¬ (r_3 = 0) → (vp_in p1 4 ∧ (vp_in p3 4 ∧ Q (-12 : Int32)))) ∧ ((r_3 = 0) → Q (-1 : Int32)))))))
set_option maxHeartbeats 4000000 in
theorem mt_X0_copy_SB (l : Launch) (G : GT) (aS : Nat) (hfl : l.flags = pinnedFlags ++ [noTraceFlag]) (h h_kinds h_now h_fault h_tape h_got h_failing h_past h_aside h_best h_tried h_kept h_keptPast h_sheets h_sheets_x h_sheets_x_r h_sheets_y h_sheets_y_r : Nat) (shf : Nat → Option Nat) (sz : Nat) (taped : Int32) (reads : Int32) (undoMany : Int32) (keptMany : Int32) (isKept : Int32) (rn : Nat) (rw : Nat → Int32) (rn2 : Nat) (rw2 : Nat → Int32) (p1 : Int32) (p2 : Int32) (p3 : Int32) (p4 : Int32) (p5 : Int32)(hsh : shf p1.toNatClampNeg = some h_sheets_x) (hsh2 : shf p3.toNatClampNeg = some h_sheets_y) (Q : Int32 → Prop) (hw : wp_X0_copy_SB rn rw rn2 rw2 p1 p2 p3 p4 p5 Q) : Met l yX0_copy (wsW_ yX0_copy cX0_copy 7 (some .int) [(18, 44, 47, 354), (18, 44, 52, 360), (18, 44, 57, 362)]) ({ frames := 9, cells := 3, slots := 1010, locals := 10248 } : Room) (va_Pc [.ref h, .int p1, .int p2, .int p3, .int p4, .int p5] (fun U => U.heap.size = sz ∧ va_P G.1 gCl [oc h 0 [.ref h_kinds, .ref h_now, .ref h_fault, .ref h_tape, .int taped, .int reads, .ref h_got, .ref h_failing, .ref h_past, .int undoMany, .ref h_aside, .ref h_best, .ref h_tried, .ref h_kept, .ref h_keptPast, .int keptMany, .int isKept, .ref h_sheets], arf G h_sheets 7 4 shf, oc h_sheets_x 8 [.ref h_sheets_x_r], ah G h_sheets_x_r rn rw, oc h_sheets_y 8 [.ref h_sheets_y_r], ay G h_sheets_y_r rn2 rw2] U.heap ∧ gK G U ∧ va_D (fun _ => True) [oc h 0 [.ref h_kinds, .ref h_now, .ref h_fault, .ref h_tape, .int taped, .int reads, .ref h_got, .ref h_failing, .ref h_past, .int undoMany, .ref h_aside, .ref h_best, .ref h_tried, .ref h_kept, .ref h_keptPast, .int keptMany, .int isKept, .ref h_sheets], arf G h_sheets 7 4 shf, oc h_sheets_x 8 [.ref h_sheets_x_r], ah G h_sheets_x_r rn rw, oc h_sheets_y 8 [.ref h_sheets_y_r], ay G h_sheets_y_r rn2 rw2] ∧ stS aS U)) ((fun A => (va_Qi (fun (r : Int32) (u : Unit) => Q r ) (fun u t => va_P G.1 gCl [oc h 0 [.ref h_kinds, .ref h_now, .ref h_fault, .ref h_tape, .int taped, .int reads, .ref h_got, .ref h_failing, .ref h_past, .int undoMany, .ref h_aside, .ref h_best, .ref h_tried, .ref h_kept, .ref h_keptPast, .int keptMany, .int isKept, .ref h_sheets], arf G h_sheets 7 4 shf, oc h_sheets_x 8 [.ref h_sheets_x_r], ah G h_sheets_x_r rn rw, oc h_sheets_y 8 [.ref h_sheets_y_r], ay G h_sheets_y_r rn2 rw2] t.heap ∧ va_D A [oc h 0 [.ref h_kinds, .ref h_now, .ref h_fault, .ref h_tape, .int taped, .int reads, .ref h_got, .ref h_failing, .ref h_past, .int undoMany, .ref h_aside, .ref h_best, .ref h_tried, .ref h_kept, .ref h_keptPast, .int keptMany, .int isKept, .ref h_sheets], arf G h_sheets 7 4 shf, oc h_sheets_x 8 [.ref h_sheets_x_r], ah G h_sheets_x_r rn rw, oc h_sheets_y 8 [.ref h_sheets_y_r], ay G h_sheets_y_r rn2 rw2]) A)) (va_A [oc h 0 [.ref h_kinds, .ref h_now, .ref h_fault, .ref h_tape, .int taped, .int reads, .ref h_got, .ref h_failing, .ref h_past, .int undoMany, .ref h_aside, .ref h_best, .ref h_tried, .ref h_kept, .ref h_keptPast, .int keptMany, .int isKept, .ref h_sheets], arf G h_sheets 7 4 shf, oc h_sheets_x 8 [.ref h_sheets_x_r], ah G h_sheets_x_r rn rw, oc h_sheets_y 8 [.ref h_sheets_y_r], ay G h_sheets_y_r rn2 rw2] sz)) 3 1010 (va_A [oc h 0 [.ref h_kinds, .ref h_now, .ref h_fault, .ref h_tape, .int taped, .int reads, .ref h_got, .ref h_failing, .ref h_past, .int undoMany, .ref h_aside, .ref h_best, .ref h_tried, .ref h_kept, .ref h_keptPast, .int keptMany, .int isKept, .ref h_sheets], arf G h_sheets 7 4 shf, oc h_sheets_x 8 [.ref h_sheets_x_r], ah G h_sheets_x_r rn rw, oc h_sheets_y 8 [.ref h_sheets_y_r], ay G h_sheets_y_r rn2 rw2] sz) := by
  refine va_MetW (hh := [(18, 44, 47, 354), (18, 44, 52, 360), (18, 44, 57, 362)]) (cc := cX0_copy) (maxL := 7) (ret := (some .int)) (by decide) rfl ?_
  intro p e s m args below meth c s₁ B hml hv
  obtain ⟨rfl, hsz, hP, hK, hD0, hst⟩ := hv
  have hx := B.exec
  have hb := B.bytes
  have hr := B.returns
  have hts := atoms_spec (ws := (wsW_ yX0_copy cX0_copy 7 (some .int) [(18, 44, 47, 354), (18, 44, 52, 360), (18, 44, 57, 362)])) B.pre
  have hts : ∀ w ∈ lw_all, w.before _ s = true := fun w h => hts w (List.mem_cons_of_mem _ h)
  have hown : s.vm.findClass RX0 = some m.cls := findClass_of_methodNamed B.named
  have hlocks := B.notSynchronized
  have hhd : c.exceptionTable.toList = [⟨18, 44, 47, 354⟩, ⟨18, 44, 52, 360⟩, ⟨18, 44, 57, 362⟩] := x_hand B (atoms_spec (ws := (wsW_ yX0_copy cX0_copy 7 (some .int) [(18, 44, 47, 354), (18, 44, 52, 360), (18, 44, 57, 362)])) B.pre _ List.mem_cons_self)
  subst hsz
  have hD := hD0.self (sz := s.heap.size)
  generalize hAe : va_A [oc h 0 [.ref h_kinds, .ref h_now, .ref h_fault, .ref h_tape, .int taped, .int reads, .ref h_got, .ref h_failing, .ref h_past, .int undoMany, .ref h_aside, .ref h_best, .ref h_tried, .ref h_kept, .ref h_keptPast, .int keptMany, .int isKept, .ref h_sheets], arf G h_sheets 7 4 shf, oc h_sheets_x 8 [.ref h_sheets_x_r], ah G h_sheets_x_r rn rw, oc h_sheets_y 8 [.ref h_sheets_y_r], ay G h_sheets_y_r rn2 rw2] s.heap.size = A at hD ⊢
  have hA : ∀ q : Nat, s.heap.size ≤ q → A q := fun q h => by rw [← hAe]; exact Or.inr h
  have hS : va_S A s.heap s.heap [] := va_S.rf
  have hX : XCx l aS s A := ⟨hfl, hst, fun q cell hq hc => va_A.ns hP (by rw [hAe]; exact hq) hc⟩
  have C : Cx p s m meth c cX0_copy 7 (some .int) RX0 ([.ref h, .int p1, .int p2, .int p3, .int p4, .int p5] : List Value).toArray G A := ⟨hx, hb, hr, hlocks, hml, hown, hts, hK, hA⟩
  have hl := lv_entry ([.ref h, .int p1, .int p2, .int p3, .int p4, .int p5]) (n := 7) (Nat.le_of_ble_eq_true rfl)
  rw [lg_entry_eq]
  generalize (lg_sl ([.ref h, .int p1, .int p2, .int p3, .int p4, .int p5]) ++ List.replicate (7 - (lg_sl ([.ref h, .int p1, .int p2, .int p3, .int p4, .int p5])).length) Slot.unset).toArray = ls at hl ⊢
  have hl : lv_has ls 7 [(0, .ref h), (1, .int p1), (2, .int p2), (3, .int p3), (4, .int p4), (5, .int p5)] := hl
  unfold wp_X0_copy_SB at hw
  refine lv_iload_n hx hb dX0_copy_0 rfl (lv_at hl 1 rfl) ?_
  refine lv_iconst (v := (0 : Int32)) hx hb dX0_copy_1 (by decide) ?_
  have hPc := hP.sub (ws' := []) [] rfl
  have hDc := hD.sub (ws' := []) [] (by decide) rfl
  have hFc := va_free (wc := []) hD hS hA [] rfl
  refine va_calli (va_runS (As := [.int p1, .int (0 : Int32)]) (rest := []) ⟨hx, hb, hml, hown, hts⟩ (mt_X0_isSheet l G  s.heap.size  p1 (0 : Int32) _ hw) (va_cwS 2 hts (lw_S q648 q649 q54 q650) rfl rfl rfl (by decide +kernel) ⟨Nat.le_of_ble_eq_true rfl, Nat.le_of_ble_eq_true rfl⟩) ⟨fun a U g mk q => by obtain ⟨q0, q1, qP, qK, qD⟩ := q; exact ⟨q0, q1, qP, qK.call, qD⟩, fun U hU hW => ⟨rfl, by rw [hU], by rw [hU]; exact hPc, hK.warm hW, hDc.weaken (fun _ _ _ _ => trivial)⟩⟩ rfl rfl hl.1 rfl (lv_room (Nat.le_of_ble_eq_true rfl)) dX0_copy_2 ⟨Nat.le_of_ble_eq_true rfl, Nat.le_of_ble_eq_true rfl⟩) hS (fun q _ h => hFc q h) hFc (fun r_1 _ t H1 locs ht hvm hw hB hz1 hk1 hS => ?_)
  obtain ⟨hP1, hD1⟩ := hB
  rw [ht] at hP1
  obtain ⟨hP, hD⟩ := va_join (wr := [oc h 0 [.ref h_kinds, .ref h_now, .ref h_fault, .ref h_tape, .int taped, .int reads, .ref h_got, .ref h_failing, .ref h_past, .int undoMany, .ref h_aside, .ref h_best, .ref h_tried, .ref h_kept, .ref h_keptPast, .int keptMany, .int isKept, .ref h_sheets], arf G h_sheets 7 4 shf, oc h_sheets_x 8 [.ref h_sheets_x_r], ah G h_sheets_x_r rn rw, oc h_sheets_y 8 [.ref h_sheets_y_r], ay G h_sheets_y_r rn2 rw2]) (w1 := []) hP hD [] [0, 1, 2, 3, 4, 5] rfl rfl (by decide) (by decide) hk1 hFc hP1 hD1
  clear hPc hDc hFc hP1 hD1 hz1 hk1 hvm
  generalize H1 = H at hP hS ⊢
  have hP : va_P G.1 gCl [oc h 0 [.ref h_kinds, .ref h_now, .ref h_fault, .ref h_tape, .int taped, .int reads, .ref h_got, .ref h_failing, .ref h_past, .int undoMany, .ref h_aside, .ref h_best, .ref h_tried, .ref h_kept, .ref h_keptPast, .int keptMany, .int isKept, .ref h_sheets], arf G h_sheets 7 4 shf, oc h_sheets_x 8 [.ref h_sheets_x_r], ah G h_sheets_x_r rn rw, oc h_sheets_y 8 [.ref h_sheets_y_r], ay G h_sheets_y_r rn2 rw2] H := hP
  have hD : va_D A [oc h 0 [.ref h_kinds, .ref h_now, .ref h_fault, .ref h_tape, .int taped, .int reads, .ref h_got, .ref h_failing, .ref h_past, .int undoMany, .ref h_aside, .ref h_best, .ref h_tried, .ref h_kept, .ref h_keptPast, .int keptMany, .int isKept, .ref h_sheets], arf G h_sheets 7 4 shf, oc h_sheets_x 8 [.ref h_sheets_x_r], ah G h_sheets_x_r rn rw, oc h_sheets_y 8 [.ref h_sheets_y_r], ay G h_sheets_y_r rn2 rw2] := hD
  refine lv_if_eq (tgt := 16) hx hb dX0_copy_5 (by decide) (fun c_2 => ?_) (fun c_2 => ?_)
  · replace hw := hw.1 c_2
    refine lv_iconst (v := (-1 : Int32)) hx hb dX0_copy_16 (by decide) ?_
    have hP9 := hP
    have hD9 := hD
    exact w_widen (k := 3) (n := 1010) (by first | exact Nat.le_of_ble_eq_true rfl | omega) (by first | exact Nat.le_of_ble_eq_true rfl | omega) (W.iret (v := (-1 : Int32)) hx hb hr (fun t ht hW => ⟨⟨(-1 : Int32), (), rfl, hw, by rw [ht]; exact hP9, hD9⟩, hS.F ht⟩) hS.2.2 dX0_copy_17)
  · replace hw := hw.2 c_2
    refine lv_iload_n hx hb dX0_copy_8 rfl (lv_at hl 3 rfl) ?_
    refine lv_iconst (v := (0 : Int32)) hx hb dX0_copy_9 (by decide) ?_
    have hPc := hP.sub (ws' := []) [] rfl
    have hDc := hD.sub (ws' := []) [] (by decide) rfl
    have hFc := va_free (wc := []) hD hS hA [] rfl
    refine va_calli (va_runS (As := [.int p3, .int (0 : Int32)]) (rest := []) ⟨hx, hb, hml, hown, hts⟩ (mt_X0_isSheet l G  H.size  p3 (0 : Int32) _ hw) (va_cwS 2 hts (lw_S q648 q649 q54 q650) rfl rfl rfl (by decide +kernel) ⟨Nat.le_of_ble_eq_true rfl, Nat.le_of_ble_eq_true rfl⟩) ⟨fun a U g mk q => by obtain ⟨q0, q1, qP, qK, qD⟩ := q; exact ⟨q0, q1, qP, qK.call, qD⟩, fun U hU hW => ⟨rfl, by rw [hU], by rw [hU]; exact hPc, hK.warm hW, hDc.weaken (fun _ _ _ _ => trivial)⟩⟩ rfl rfl hl.1 rfl (lv_room (Nat.le_of_ble_eq_true rfl)) dX0_copy_10 ⟨Nat.le_of_ble_eq_true rfl, Nat.le_of_ble_eq_true rfl⟩) hS (fun q _ h => hFc q h) hFc (fun r_3 _ t H1 locs ht hvm hw hB hz1 hk1 hS => ?_)
    obtain ⟨hP1, hD1⟩ := hB
    rw [ht] at hP1
    obtain ⟨hP, hD⟩ := va_join (wr := [oc h 0 [.ref h_kinds, .ref h_now, .ref h_fault, .ref h_tape, .int taped, .int reads, .ref h_got, .ref h_failing, .ref h_past, .int undoMany, .ref h_aside, .ref h_best, .ref h_tried, .ref h_kept, .ref h_keptPast, .int keptMany, .int isKept, .ref h_sheets], arf G h_sheets 7 4 shf, oc h_sheets_x 8 [.ref h_sheets_x_r], ah G h_sheets_x_r rn rw, oc h_sheets_y 8 [.ref h_sheets_y_r], ay G h_sheets_y_r rn2 rw2]) (w1 := []) hP hD [] [0, 1, 2, 3, 4, 5] rfl rfl (by decide) (by decide) hk1 hFc hP1 hD1
    clear hPc hDc hFc hP1 hD1 hz1 hk1 hvm
    generalize H1 = H at hP hS ⊢
    have hP : va_P G.1 gCl [oc h 0 [.ref h_kinds, .ref h_now, .ref h_fault, .ref h_tape, .int taped, .int reads, .ref h_got, .ref h_failing, .ref h_past, .int undoMany, .ref h_aside, .ref h_best, .ref h_tried, .ref h_kept, .ref h_keptPast, .int keptMany, .int isKept, .ref h_sheets], arf G h_sheets 7 4 shf, oc h_sheets_x 8 [.ref h_sheets_x_r], ah G h_sheets_x_r rn rw, oc h_sheets_y 8 [.ref h_sheets_y_r], ay G h_sheets_y_r rn2 rw2] H := hP
    have hD : va_D A [oc h 0 [.ref h_kinds, .ref h_now, .ref h_fault, .ref h_tape, .int taped, .int reads, .ref h_got, .ref h_failing, .ref h_past, .int undoMany, .ref h_aside, .ref h_best, .ref h_tried, .ref h_kept, .ref h_keptPast, .int keptMany, .int isKept, .ref h_sheets], arf G h_sheets 7 4 shf, oc h_sheets_x 8 [.ref h_sheets_x_r], ah G h_sheets_x_r rn rw, oc h_sheets_y 8 [.ref h_sheets_y_r], ay G h_sheets_y_r rn2 rw2] := hD
    refine lv_if_ne (tgt := 18) hx hb dX0_copy_13 (by decide) (fun c_4 => ?_) (fun c_4 => ?_)
    · replace hw := hw.1 c_4
      refine lv_aload_n hx hb dX0_copy_18 rfl (lv_at hl 0 rfl) ?_
      refine va_get (D := G.1) (ci := 0) (v := .ref h_sheets) (C := RX0) (T := TX0) (N := 18) hx hb hts in_X0 hown hK.1 hP 0 rfl rfl 17 (by decide) (hts _ q273) (fun _ h9 => h9) rfl dX0_copy_19 ?_
      refine lv_iload_n hx hb dX0_copy_22 rfl (lv_at hl 1 rfl) ?_
      obtain ⟨i_5, hw⟩ := hw
      refine z_aaldS hx hb hK.1 hP 1 7 rfl rfl i_5 dX0_copy_23 hsh ?_
      refine va_getN (D := G.1) (ci := 8) (v := .ref h_sheets_x_r) (C := RX8) (T := TX8) (N := 1) hx hb hts in_X8 hown hK.1 hP 2 rfl rfl 0 (by decide) (hK.n q251 rfl) (fun _ h9 => h9) rfl dX0_copy_24 ?_
      refine lv_iload_n hx hb dX0_copy_27 rfl (lv_at hl 2 rfl) ?_
      refine lv_aload_n hx hb dX0_copy_28 rfl (lv_at hl 0 rfl) ?_
      refine va_get (D := G.1) (ci := 0) (v := .ref h_sheets) (C := RX0) (T := TX0) (N := 18) hx hb hts in_X0 hown hK.1 hP 0 rfl rfl 17 (by decide) (hts _ q273) (fun _ h9 => h9) rfl dX0_copy_29 ?_
      refine lv_iload_n hx hb dX0_copy_32 rfl (lv_at hl 3 rfl) ?_
      obtain ⟨i_6, hw⟩ := hw
      refine z_aaldS hx hb hK.1 hP 1 7 rfl rfl i_6 dX0_copy_33 hsh2 ?_
      refine va_getN (D := G.1) (ci := 8) (v := .ref h_sheets_y_r) (C := RX8) (T := TX8) (N := 1) hx hb hts in_X8 hown hK.1 hP 4 rfl rfl 0 (by decide) (hK.n q251 rfl) (fun _ h9 => h9) rfl dX0_copy_34 ?_
      refine lv_iload hx hb dX0_copy_37 (lv_at hl 4 rfl) ?_
      refine lv_iload hx hb dX0_copy_39 (lv_at hl 5 rfl) ?_
      refine w_cpType (rest := []) ⟨hx, hb, hml.trans hl.1.symm, hts, hK, hX, hS, hP, hown, hts _ q512, hts _ q440, hts _ q439, hts _ q68, dX0_copy_41, Nat.le_of_ble_eq_true rfl, Nat.le_of_ble_eq_true rfl, Nat.le_of_ble_eq_true rfl, Nat.le_of_ble_eq_true rfl, Nat.le_of_ble_eq_true rfl⟩ 3 5 4 3 rfl rfl rfl rfl (by decide) (fun x_7 H hxo hP hS hz hk => ?_)
      obtain ⟨ce, hce, hcv, hcc⟩ := hxo
      refine wx_catch (cell := ce) hce (by rw [hcv]; rfl) [⟨18, 44, 47, 354⟩] ⟨18, 44, 52, 360⟩ [⟨18, 44, 57, 362⟩] hhd (fun pl hpl z hz => (List.forall_mem_cons.mpr ⟨x_pass (z := ⟨18, 44, 47, 354⟩) (by decide) (by decide) hown (hts _ q734) (hK.2.2 ("java/lang/ArrayStoreException", "java/lang/NullPointerException") (by decide +kernel)) hcc pl hpl, fun _ h9 => absurd h9 List.not_mem_nil⟩) z hz) (by decide) (by decide) hown (hts _ q796) (cT := ce.cls) hcc (vm_refl (args := #[]) (hK.n q808 rfl) hcc) ?_
      refine lv_astore (lv' := [(6, .ref x_7), (0, .ref h), (1, .int p1), (2, .int p2), (3, .int p3), (4, .int p4), (5, .int p5)]) hx hb dX0_copy_52 hl (by decide) rfl (fun ls hl => ?_)
      refine lv_bipush (v := (-12 : Int32)) hx hb dX0_copy_54 (by decide) ?_
      have hP9 := hP
      have hD9 := hD
      exact w_widen (k := 3) (n := 1010) (by first | exact Nat.le_of_ble_eq_true rfl | omega) (by first | exact Nat.le_of_ble_eq_true rfl | omega) (W.iret (v := (-12 : Int32)) hx hb hr (fun t ht hW => ⟨⟨(-12 : Int32), (), rfl, hw, by rw [ht]; exact hP9, hD9⟩, hS.F ht⟩) hS.2.2 dX0_copy_56)
    · replace hw := hw.2 c_4
      refine lv_iconst (v := (-1 : Int32)) hx hb dX0_copy_16 (by decide) ?_
      have hP9 := hP
      have hD9 := hD
      exact w_widen (k := 3) (n := 1010) (by first | exact Nat.le_of_ble_eq_true rfl | omega) (by first | exact Nat.le_of_ble_eq_true rfl | omega) (W.iret (v := (-1 : Int32)) hx hb hr (fun t ht hW => ⟨⟨(-1 : Int32), (), rfl, hw, by rw [ht]; exact hP9, hD9⟩, hS.F ht⟩) hS.2.2 dX0_copy_17)
/-! BattleBench.copy(IIIII)I -/
def wp_X0_copy_SS (rn : Nat) (rw : Nat → Int32) (rn2 : Nat) (rw2 : Nat → Int32) (p1 : Int32) (p2 : Int32) (p3 : Int32) (p4 : Int32) (p5 : Int32) (Q : Int32 → ((Nat → Int32)) → Prop) : Prop :=
  wp_X0_isSheet  p1 (0 : Int32) (fun r_1 => (((r_1 = 0) → Q (-1 : Int32) rw2) ∧ (¬ (r_1 = 0) → wp_X0_isSheet  p3 (0 : Int32) (fun r_3 => ((¬ (r_3 = 0) → (vp_in p1 4 ∧ (vp_in p3 4 ∧ ((cpOk p2 p4 p5 rn rn2 → ((∀ i, i < p5.toNatClampNeg → fits .short (.int (rw (p2.toNatClampNeg + i))) = true) ∧ ∀ f_9 : Nat → Int32, f_9 = va_cpy rw rw2 p2.toNatClampNeg p4.toNatClampNeg p5.toNatClampNeg → Q p5 f_9)) ∧ (¬ cpOk p2 p4 p5 rn rn2 → (rn < 2147483648 ∧ rn2 < 2147483648 ∧ Q (-13 : Int32) rw2)))))) ∧ ((r_3 = 0) → Q (-1 : Int32) rw2))))))
set_option maxHeartbeats 4000000 in
theorem mt_X0_copy_SS (l : Launch) (G : GT) (aS : Nat) (hfl : l.flags = pinnedFlags ++ [noTraceFlag]) (h h_kinds h_now h_fault h_tape h_got h_failing h_past h_aside h_best h_tried h_kept h_keptPast h_sheets h_sheets_x h_sheets_x_r h_sheets_y h_sheets_y_r : Nat) (shf : Nat → Option Nat) (sz : Nat) (taped : Int32) (reads : Int32) (undoMany : Int32) (keptMany : Int32) (isKept : Int32) (rn : Nat) (rw : Nat → Int32) (rn2 : Nat) (rw2 : Nat → Int32) (p1 : Int32) (p2 : Int32) (p3 : Int32) (p4 : Int32) (p5 : Int32)(hsh : shf p1.toNatClampNeg = some h_sheets_x) (hsh2 : shf p3.toNatClampNeg = some h_sheets_y) (Q : Int32 → ((Nat → Int32)) → Prop) (hw : wp_X0_copy_SS rn rw rn2 rw2 p1 p2 p3 p4 p5 Q) : Met l yX0_copy (wsW_ yX0_copy cX0_copy 7 (some .int) [(18, 44, 47, 354), (18, 44, 52, 360), (18, 44, 57, 362)]) ({ frames := 9, cells := 3, slots := 1010, locals := 10248 } : Room) (va_Pc [.ref h, .int p1, .int p2, .int p3, .int p4, .int p5] (fun U => U.heap.size = sz ∧ va_P G.1 gCl [oc h 0 [.ref h_kinds, .ref h_now, .ref h_fault, .ref h_tape, .int taped, .int reads, .ref h_got, .ref h_failing, .ref h_past, .int undoMany, .ref h_aside, .ref h_best, .ref h_tried, .ref h_kept, .ref h_keptPast, .int keptMany, .int isKept, .ref h_sheets], arf G h_sheets 7 4 shf, oc h_sheets_x 8 [.ref h_sheets_x_r], ah G h_sheets_x_r rn rw, oc h_sheets_y 8 [.ref h_sheets_y_r], ah G h_sheets_y_r rn2 rw2] U.heap ∧ gK G U ∧ va_D (fun _ => True) [oc h 0 [.ref h_kinds, .ref h_now, .ref h_fault, .ref h_tape, .int taped, .int reads, .ref h_got, .ref h_failing, .ref h_past, .int undoMany, .ref h_aside, .ref h_best, .ref h_tried, .ref h_kept, .ref h_keptPast, .int keptMany, .int isKept, .ref h_sheets], arf G h_sheets 7 4 shf, oc h_sheets_x 8 [.ref h_sheets_x_r], ah G h_sheets_x_r rn rw, oc h_sheets_y 8 [.ref h_sheets_y_r], ah G h_sheets_y_r rn2 rw2] ∧ stS aS U)) ((fun A => (va_Qi (fun (r : Int32) (u : (Nat → Int32)) => Q r u) (fun u t => va_P G.1 gCl [oc h 0 [.ref h_kinds, .ref h_now, .ref h_fault, .ref h_tape, .int taped, .int reads, .ref h_got, .ref h_failing, .ref h_past, .int undoMany, .ref h_aside, .ref h_best, .ref h_tried, .ref h_kept, .ref h_keptPast, .int keptMany, .int isKept, .ref h_sheets], arf G h_sheets 7 4 shf, oc h_sheets_x 8 [.ref h_sheets_x_r], ah G h_sheets_x_r rn rw, oc h_sheets_y 8 [.ref h_sheets_y_r], ah G h_sheets_y_r rn2 u] t.heap ∧ va_D A [oc h 0 [.ref h_kinds, .ref h_now, .ref h_fault, .ref h_tape, .int taped, .int reads, .ref h_got, .ref h_failing, .ref h_past, .int undoMany, .ref h_aside, .ref h_best, .ref h_tried, .ref h_kept, .ref h_keptPast, .int keptMany, .int isKept, .ref h_sheets], arf G h_sheets 7 4 shf, oc h_sheets_x 8 [.ref h_sheets_x_r], ah G h_sheets_x_r rn rw, oc h_sheets_y 8 [.ref h_sheets_y_r], ah G h_sheets_y_r rn2 u]) A)) (va_A [oc h 0 [.ref h_kinds, .ref h_now, .ref h_fault, .ref h_tape, .int taped, .int reads, .ref h_got, .ref h_failing, .ref h_past, .int undoMany, .ref h_aside, .ref h_best, .ref h_tried, .ref h_kept, .ref h_keptPast, .int keptMany, .int isKept, .ref h_sheets], arf G h_sheets 7 4 shf, oc h_sheets_x 8 [.ref h_sheets_x_r], ah G h_sheets_x_r rn rw, oc h_sheets_y 8 [.ref h_sheets_y_r], ah G h_sheets_y_r rn2 rw2] sz)) 3 1010 (va_A [oc h 0 [.ref h_kinds, .ref h_now, .ref h_fault, .ref h_tape, .int taped, .int reads, .ref h_got, .ref h_failing, .ref h_past, .int undoMany, .ref h_aside, .ref h_best, .ref h_tried, .ref h_kept, .ref h_keptPast, .int keptMany, .int isKept, .ref h_sheets], arf G h_sheets 7 4 shf, oc h_sheets_x 8 [.ref h_sheets_x_r], ah G h_sheets_x_r rn rw, oc h_sheets_y 8 [.ref h_sheets_y_r], ah G h_sheets_y_r rn2 rw2] sz) := by
  refine va_MetW (hh := [(18, 44, 47, 354), (18, 44, 52, 360), (18, 44, 57, 362)]) (cc := cX0_copy) (maxL := 7) (ret := (some .int)) (by decide) rfl ?_
  intro p e s m args below meth c s₁ B hml hv
  obtain ⟨rfl, hsz, hP, hK, hD0, hst⟩ := hv
  have hx := B.exec
  have hb := B.bytes
  have hr := B.returns
  have hts := atoms_spec (ws := (wsW_ yX0_copy cX0_copy 7 (some .int) [(18, 44, 47, 354), (18, 44, 52, 360), (18, 44, 57, 362)])) B.pre
  have hts : ∀ w ∈ lw_all, w.before _ s = true := fun w h => hts w (List.mem_cons_of_mem _ h)
  have hown : s.vm.findClass RX0 = some m.cls := findClass_of_methodNamed B.named
  have hlocks := B.notSynchronized
  have hhd : c.exceptionTable.toList = [⟨18, 44, 47, 354⟩, ⟨18, 44, 52, 360⟩, ⟨18, 44, 57, 362⟩] := x_hand B (atoms_spec (ws := (wsW_ yX0_copy cX0_copy 7 (some .int) [(18, 44, 47, 354), (18, 44, 52, 360), (18, 44, 57, 362)])) B.pre _ List.mem_cons_self)
  subst hsz
  have hD := hD0.self (sz := s.heap.size)
  generalize hAe : va_A [oc h 0 [.ref h_kinds, .ref h_now, .ref h_fault, .ref h_tape, .int taped, .int reads, .ref h_got, .ref h_failing, .ref h_past, .int undoMany, .ref h_aside, .ref h_best, .ref h_tried, .ref h_kept, .ref h_keptPast, .int keptMany, .int isKept, .ref h_sheets], arf G h_sheets 7 4 shf, oc h_sheets_x 8 [.ref h_sheets_x_r], ah G h_sheets_x_r rn rw, oc h_sheets_y 8 [.ref h_sheets_y_r], ah G h_sheets_y_r rn2 rw2] s.heap.size = A at hD ⊢
  have hA : ∀ q : Nat, s.heap.size ≤ q → A q := fun q h => by rw [← hAe]; exact Or.inr h
  have hS : va_S A s.heap s.heap [] := va_S.rf
  have hX : XCx l aS s A := ⟨hfl, hst, fun q cell hq hc => va_A.ns hP (by rw [hAe]; exact hq) hc⟩
  have C : Cx p s m meth c cX0_copy 7 (some .int) RX0 ([.ref h, .int p1, .int p2, .int p3, .int p4, .int p5] : List Value).toArray G A := ⟨hx, hb, hr, hlocks, hml, hown, hts, hK, hA⟩
  have hl := lv_entry ([.ref h, .int p1, .int p2, .int p3, .int p4, .int p5]) (n := 7) (Nat.le_of_ble_eq_true rfl)
  rw [lg_entry_eq]
  generalize (lg_sl ([.ref h, .int p1, .int p2, .int p3, .int p4, .int p5]) ++ List.replicate (7 - (lg_sl ([.ref h, .int p1, .int p2, .int p3, .int p4, .int p5])).length) Slot.unset).toArray = ls at hl ⊢
  have hl : lv_has ls 7 [(0, .ref h), (1, .int p1), (2, .int p2), (3, .int p3), (4, .int p4), (5, .int p5)] := hl
  unfold wp_X0_copy_SS at hw
  refine lv_iload_n hx hb dX0_copy_0 rfl (lv_at hl 1 rfl) ?_
  refine lv_iconst (v := (0 : Int32)) hx hb dX0_copy_1 (by decide) ?_
  have hPc := hP.sub (ws' := []) [] rfl
  have hDc := hD.sub (ws' := []) [] (by decide) rfl
  have hFc := va_free (wc := []) hD hS hA [] rfl
  refine va_calli (va_runS (As := [.int p1, .int (0 : Int32)]) (rest := []) ⟨hx, hb, hml, hown, hts⟩ (mt_X0_isSheet l G  s.heap.size  p1 (0 : Int32) _ hw) (va_cwS 2 hts (lw_S q648 q649 q54 q650) rfl rfl rfl (by decide +kernel) ⟨Nat.le_of_ble_eq_true rfl, Nat.le_of_ble_eq_true rfl⟩) ⟨fun a U g mk q => by obtain ⟨q0, q1, qP, qK, qD⟩ := q; exact ⟨q0, q1, qP, qK.call, qD⟩, fun U hU hW => ⟨rfl, by rw [hU], by rw [hU]; exact hPc, hK.warm hW, hDc.weaken (fun _ _ _ _ => trivial)⟩⟩ rfl rfl hl.1 rfl (lv_room (Nat.le_of_ble_eq_true rfl)) dX0_copy_2 ⟨Nat.le_of_ble_eq_true rfl, Nat.le_of_ble_eq_true rfl⟩) hS (fun q _ h => hFc q h) hFc (fun r_1 _ t H1 locs ht hvm hw hB hz1 hk1 hS => ?_)
  obtain ⟨hP1, hD1⟩ := hB
  rw [ht] at hP1
  obtain ⟨hP, hD⟩ := va_join (wr := [oc h 0 [.ref h_kinds, .ref h_now, .ref h_fault, .ref h_tape, .int taped, .int reads, .ref h_got, .ref h_failing, .ref h_past, .int undoMany, .ref h_aside, .ref h_best, .ref h_tried, .ref h_kept, .ref h_keptPast, .int keptMany, .int isKept, .ref h_sheets], arf G h_sheets 7 4 shf, oc h_sheets_x 8 [.ref h_sheets_x_r], ah G h_sheets_x_r rn rw, oc h_sheets_y 8 [.ref h_sheets_y_r], ah G h_sheets_y_r rn2 rw2]) (w1 := []) hP hD [] [0, 1, 2, 3, 4, 5] rfl rfl (by decide) (by decide) hk1 hFc hP1 hD1
  clear hPc hDc hFc hP1 hD1 hz1 hk1 hvm
  generalize H1 = H at hP hS ⊢
  have hP : va_P G.1 gCl [oc h 0 [.ref h_kinds, .ref h_now, .ref h_fault, .ref h_tape, .int taped, .int reads, .ref h_got, .ref h_failing, .ref h_past, .int undoMany, .ref h_aside, .ref h_best, .ref h_tried, .ref h_kept, .ref h_keptPast, .int keptMany, .int isKept, .ref h_sheets], arf G h_sheets 7 4 shf, oc h_sheets_x 8 [.ref h_sheets_x_r], ah G h_sheets_x_r rn rw, oc h_sheets_y 8 [.ref h_sheets_y_r], ah G h_sheets_y_r rn2 rw2] H := hP
  have hD : va_D A [oc h 0 [.ref h_kinds, .ref h_now, .ref h_fault, .ref h_tape, .int taped, .int reads, .ref h_got, .ref h_failing, .ref h_past, .int undoMany, .ref h_aside, .ref h_best, .ref h_tried, .ref h_kept, .ref h_keptPast, .int keptMany, .int isKept, .ref h_sheets], arf G h_sheets 7 4 shf, oc h_sheets_x 8 [.ref h_sheets_x_r], ah G h_sheets_x_r rn rw, oc h_sheets_y 8 [.ref h_sheets_y_r], ah G h_sheets_y_r rn2 rw2] := hD
  refine lv_if_eq (tgt := 16) hx hb dX0_copy_5 (by decide) (fun c_2 => ?_) (fun c_2 => ?_)
  · replace hw := hw.1 c_2
    refine lv_iconst (v := (-1 : Int32)) hx hb dX0_copy_16 (by decide) ?_
    have hP9 := hP
    have hD9 := hD
    exact w_widen (k := 3) (n := 1010) (by first | exact Nat.le_of_ble_eq_true rfl | omega) (by first | exact Nat.le_of_ble_eq_true rfl | omega) (W.iret (v := (-1 : Int32)) hx hb hr (fun t ht hW => ⟨⟨(-1 : Int32), rw2, rfl, hw, by rw [ht]; exact hP9, hD9⟩, hS.F ht⟩) hS.2.2 dX0_copy_17)
  · replace hw := hw.2 c_2
    refine lv_iload_n hx hb dX0_copy_8 rfl (lv_at hl 3 rfl) ?_
    refine lv_iconst (v := (0 : Int32)) hx hb dX0_copy_9 (by decide) ?_
    have hPc := hP.sub (ws' := []) [] rfl
    have hDc := hD.sub (ws' := []) [] (by decide) rfl
    have hFc := va_free (wc := []) hD hS hA [] rfl
    refine va_calli (va_runS (As := [.int p3, .int (0 : Int32)]) (rest := []) ⟨hx, hb, hml, hown, hts⟩ (mt_X0_isSheet l G  H.size  p3 (0 : Int32) _ hw) (va_cwS 2 hts (lw_S q648 q649 q54 q650) rfl rfl rfl (by decide +kernel) ⟨Nat.le_of_ble_eq_true rfl, Nat.le_of_ble_eq_true rfl⟩) ⟨fun a U g mk q => by obtain ⟨q0, q1, qP, qK, qD⟩ := q; exact ⟨q0, q1, qP, qK.call, qD⟩, fun U hU hW => ⟨rfl, by rw [hU], by rw [hU]; exact hPc, hK.warm hW, hDc.weaken (fun _ _ _ _ => trivial)⟩⟩ rfl rfl hl.1 rfl (lv_room (Nat.le_of_ble_eq_true rfl)) dX0_copy_10 ⟨Nat.le_of_ble_eq_true rfl, Nat.le_of_ble_eq_true rfl⟩) hS (fun q _ h => hFc q h) hFc (fun r_3 _ t H1 locs ht hvm hw hB hz1 hk1 hS => ?_)
    obtain ⟨hP1, hD1⟩ := hB
    rw [ht] at hP1
    obtain ⟨hP, hD⟩ := va_join (wr := [oc h 0 [.ref h_kinds, .ref h_now, .ref h_fault, .ref h_tape, .int taped, .int reads, .ref h_got, .ref h_failing, .ref h_past, .int undoMany, .ref h_aside, .ref h_best, .ref h_tried, .ref h_kept, .ref h_keptPast, .int keptMany, .int isKept, .ref h_sheets], arf G h_sheets 7 4 shf, oc h_sheets_x 8 [.ref h_sheets_x_r], ah G h_sheets_x_r rn rw, oc h_sheets_y 8 [.ref h_sheets_y_r], ah G h_sheets_y_r rn2 rw2]) (w1 := []) hP hD [] [0, 1, 2, 3, 4, 5] rfl rfl (by decide) (by decide) hk1 hFc hP1 hD1
    clear hPc hDc hFc hP1 hD1 hz1 hk1 hvm
    generalize H1 = H at hP hS ⊢
    have hP : va_P G.1 gCl [oc h 0 [.ref h_kinds, .ref h_now, .ref h_fault, .ref h_tape, .int taped, .int reads, .ref h_got, .ref h_failing, .ref h_past, .int undoMany, .ref h_aside, .ref h_best, .ref h_tried, .ref h_kept, .ref h_keptPast, .int keptMany, .int isKept, .ref h_sheets], arf G h_sheets 7 4 shf, oc h_sheets_x 8 [.ref h_sheets_x_r], ah G h_sheets_x_r rn rw, oc h_sheets_y 8 [.ref h_sheets_y_r], ah G h_sheets_y_r rn2 rw2] H := hP
    have hD : va_D A [oc h 0 [.ref h_kinds, .ref h_now, .ref h_fault, .ref h_tape, .int taped, .int reads, .ref h_got, .ref h_failing, .ref h_past, .int undoMany, .ref h_aside, .ref h_best, .ref h_tried, .ref h_kept, .ref h_keptPast, .int keptMany, .int isKept, .ref h_sheets], arf G h_sheets 7 4 shf, oc h_sheets_x 8 [.ref h_sheets_x_r], ah G h_sheets_x_r rn rw, oc h_sheets_y 8 [.ref h_sheets_y_r], ah G h_sheets_y_r rn2 rw2] := hD
    refine lv_if_ne (tgt := 18) hx hb dX0_copy_13 (by decide) (fun c_4 => ?_) (fun c_4 => ?_)
    · replace hw := hw.1 c_4
      refine lv_aload_n hx hb dX0_copy_18 rfl (lv_at hl 0 rfl) ?_
      refine va_get (D := G.1) (ci := 0) (v := .ref h_sheets) (C := RX0) (T := TX0) (N := 18) hx hb hts in_X0 hown hK.1 hP 0 rfl rfl 17 (by decide) (hts _ q273) (fun _ h9 => h9) rfl dX0_copy_19 ?_
      refine lv_iload_n hx hb dX0_copy_22 rfl (lv_at hl 1 rfl) ?_
      obtain ⟨i_5, hw⟩ := hw
      refine z_aaldS hx hb hK.1 hP 1 7 rfl rfl i_5 dX0_copy_23 hsh ?_
      refine va_getN (D := G.1) (ci := 8) (v := .ref h_sheets_x_r) (C := RX8) (T := TX8) (N := 1) hx hb hts in_X8 hown hK.1 hP 2 rfl rfl 0 (by decide) (hK.n q251 rfl) (fun _ h9 => h9) rfl dX0_copy_24 ?_
      refine lv_iload_n hx hb dX0_copy_27 rfl (lv_at hl 2 rfl) ?_
      refine lv_aload_n hx hb dX0_copy_28 rfl (lv_at hl 0 rfl) ?_
      refine va_get (D := G.1) (ci := 0) (v := .ref h_sheets) (C := RX0) (T := TX0) (N := 18) hx hb hts in_X0 hown hK.1 hP 0 rfl rfl 17 (by decide) (hts _ q273) (fun _ h9 => h9) rfl dX0_copy_29 ?_
      refine lv_iload_n hx hb dX0_copy_32 rfl (lv_at hl 3 rfl) ?_
      obtain ⟨i_6, hw⟩ := hw
      refine z_aaldS hx hb hK.1 hP 1 7 rfl rfl i_6 dX0_copy_33 hsh2 ?_
      refine va_getN (D := G.1) (ci := 8) (v := .ref h_sheets_y_r) (C := RX8) (T := TX8) (N := 1) hx hb hts in_X8 hown hK.1 hP 4 rfl rfl 0 (by decide) (hK.n q251 rfl) (fun _ h9 => h9) rfl dX0_copy_34 ?_
      refine lv_iload hx hb dX0_copy_37 (lv_at hl 4 rfl) ?_
      refine lv_iload hx hb dX0_copy_39 (lv_at hl 5 rfl) ?_
      by_cases c_8 : cpOk p2 p4 p5 rn rn2
      · replace hw := hw.1 c_8
        obtain ⟨i_10, hw⟩ := hw
        refine z_cpI hx hb (hml.trans hl.1.symm) hown (hts _ q512) (hts _ q440) (hts _ q439) (hts _ q68) hK.1 hP hD hS 3 5 4 rfl rfl rfl rfl rfl c_8 i_10 (Nat.le_of_ble_eq_true rfl) (Nat.le_of_ble_eq_true rfl) dX0_copy_41 (fun f_9 ef_9 H locs hP hD hS => ?_)
        replace hw := hw f_9 ef_9
        have hP : va_P G.1 gCl [oc h 0 [.ref h_kinds, .ref h_now, .ref h_fault, .ref h_tape, .int taped, .int reads, .ref h_got, .ref h_failing, .ref h_past, .int undoMany, .ref h_aside, .ref h_best, .ref h_tried, .ref h_kept, .ref h_keptPast, .int keptMany, .int isKept, .ref h_sheets], arf G h_sheets 7 4 shf, oc h_sheets_x 8 [.ref h_sheets_x_r], ah G h_sheets_x_r rn rw, oc h_sheets_y 8 [.ref h_sheets_y_r], ah G h_sheets_y_r rn2 f_9] H := hP
        have hD : va_D A [oc h 0 [.ref h_kinds, .ref h_now, .ref h_fault, .ref h_tape, .int taped, .int reads, .ref h_got, .ref h_failing, .ref h_past, .int undoMany, .ref h_aside, .ref h_best, .ref h_tried, .ref h_kept, .ref h_keptPast, .int keptMany, .int isKept, .ref h_sheets], arf G h_sheets 7 4 shf, oc h_sheets_x 8 [.ref h_sheets_x_r], ah G h_sheets_x_r rn rw, oc h_sheets_y 8 [.ref h_sheets_y_r], ah G h_sheets_y_r rn2 f_9] := hD
        refine lv_goto (tgt := 62) hx hb dX0_copy_44 (by decide) ?_
        refine lv_iload hx hb dX0_copy_62 (lv_at hl 5 rfl) ?_
        have hP9 := hP
        have hD9 := hD
        exact w_widen (k := 3) (n := 1010) (by first | exact Nat.le_of_ble_eq_true rfl | omega) (by first | exact Nat.le_of_ble_eq_true rfl | omega) (W.iret (v := p5) hx hb hr (fun t ht hW => ⟨⟨p5, f_9, rfl, hw, by rw [ht]; exact hP9, hD9⟩, hS.F ht⟩) hS.2.2 dX0_copy_64)
      · obtain ⟨h31, h32, hw⟩ := hw.2 c_8
        refine w_cpOut (rest := []) ⟨hx, hb, hml.trans hl.1.symm, hts, hK, hX, hS, hP, hown, hts _ q512, hts _ q440, hts _ q439, hts _ q68, dX0_copy_41, Nat.le_of_ble_eq_true rfl, Nat.le_of_ble_eq_true rfl, Nat.le_of_ble_eq_true rfl, Nat.le_of_ble_eq_true rfl, Nat.le_of_ble_eq_true rfl⟩ 3 5 4 4 rfl rfl rfl rfl h31 h32 c_8 (fun x_7 H hxo hP hS hz hk => ?_)
        obtain ⟨ce, hce, hcv, hcc⟩ := hxo
        obtain ⟨c1, cT, hc1, hcT, hfit⟩ := Cond.castable_spec (args := #[]) (hK.n (args := #[]) q1127 rfl)
        cases hc1.symm.trans hcc
        refine wx_catch (cell := ce) hce (by rw [hcv]; rfl) [⟨18, 44, 47, 354⟩, ⟨18, 44, 52, 360⟩] ⟨18, 44, 57, 362⟩ [] hhd (fun pl hpl z hz => (List.forall_mem_cons.mpr ⟨x_pass (z := ⟨18, 44, 47, 354⟩) (by decide) (by decide) hown (hts _ q734) (hK.2.2 ("java/lang/ArrayIndexOutOfBoundsException", "java/lang/NullPointerException") (by decide +kernel)) hcc pl hpl, (List.forall_mem_cons.mpr ⟨x_pass (z := ⟨18, 44, 52, 360⟩) (by decide) (by decide) hown (hts _ q796) (hK.2.2 ("java/lang/ArrayIndexOutOfBoundsException", "java/lang/ArrayStoreException") (by decide +kernel)) hcc pl hpl, fun _ h9 => absurd h9 List.not_mem_nil⟩)⟩) z hz) (by decide) (by decide) hown (hts _ q810) (cT := cT) hcT hfit ?_
        refine lv_astore (lv' := [(6, .ref x_7), (0, .ref h), (1, .int p1), (2, .int p2), (3, .int p3), (4, .int p4), (5, .int p5)]) hx hb dX0_copy_57 hl (by decide) rfl (fun ls hl => ?_)
        refine lv_bipush (v := (-13 : Int32)) hx hb dX0_copy_59 (by decide) ?_
        have hP9 := hP
        have hD9 := hD
        exact w_widen (k := 3) (n := 1010) (by first | exact Nat.le_of_ble_eq_true rfl | omega) (by first | exact Nat.le_of_ble_eq_true rfl | omega) (W.iret (v := (-13 : Int32)) hx hb hr (fun t ht hW => ⟨⟨(-13 : Int32), rw2, rfl, hw, by rw [ht]; exact hP9, hD9⟩, hS.F ht⟩) hS.2.2 dX0_copy_61)
    · replace hw := hw.2 c_4
      refine lv_iconst (v := (-1 : Int32)) hx hb dX0_copy_16 (by decide) ?_
      have hP9 := hP
      have hD9 := hD
      exact w_widen (k := 3) (n := 1010) (by first | exact Nat.le_of_ble_eq_true rfl | omega) (by first | exact Nat.le_of_ble_eq_true rfl | omega) (W.iret (v := (-1 : Int32)) hx hb hr (fun t ht hW => ⟨⟨(-1 : Int32), rw2, rfl, hw, by rw [ht]; exact hP9, hD9⟩, hS.F ht⟩) hS.2.2 dX0_copy_17)
/-! BattleBench.copy(IIIII)I -/
def wp_X0_copy_SI (rn : Nat) (rw : Nat → Int32) (rn2 : Nat) (rw2 : Nat → Int32) (p1 : Int32) (p2 : Int32) (p3 : Int32) (p4 : Int32) (p5 : Int32) (Q : Int32 → Prop) : Prop :=
  wp_X0_isSheet  p1 (0 : Int32) (fun r_1 => (((r_1 = 0) → Q (-1 : Int32)) ∧ (¬ (r_1 = 0) → wp_X0_isSheet  p3 (0 : Int32) (fun r_3 => ((¬ (r_3 = 0) → (vp_in p1 4 ∧ (vp_in p3 4 ∧ Q (-12 : Int32)))) ∧ ((r_3 = 0) → Q (-1 : Int32)))))))
set_option maxHeartbeats 4000000 in
theorem mt_X0_copy_SI (l : Launch) (G : GT) (aS : Nat) (hfl : l.flags = pinnedFlags ++ [noTraceFlag]) (h h_kinds h_now h_fault h_tape h_got h_failing h_past h_aside h_best h_tried h_kept h_keptPast h_sheets h_sheets_x h_sheets_x_r h_sheets_y h_sheets_y_r : Nat) (shf : Nat → Option Nat) (sz : Nat) (taped : Int32) (reads : Int32) (undoMany : Int32) (keptMany : Int32) (isKept : Int32) (rn : Nat) (rw : Nat → Int32) (rn2 : Nat) (rw2 : Nat → Int32) (p1 : Int32) (p2 : Int32) (p3 : Int32) (p4 : Int32) (p5 : Int32)(hsh : shf p1.toNatClampNeg = some h_sheets_x) (hsh2 : shf p3.toNatClampNeg = some h_sheets_y) (Q : Int32 → Prop) (hw : wp_X0_copy_SI rn rw rn2 rw2 p1 p2 p3 p4 p5 Q) : Met l yX0_copy (wsW_ yX0_copy cX0_copy 7 (some .int) [(18, 44, 47, 354), (18, 44, 52, 360), (18, 44, 57, 362)]) ({ frames := 9, cells := 3, slots := 1010, locals := 10248 } : Room) (va_Pc [.ref h, .int p1, .int p2, .int p3, .int p4, .int p5] (fun U => U.heap.size = sz ∧ va_P G.1 gCl [oc h 0 [.ref h_kinds, .ref h_now, .ref h_fault, .ref h_tape, .int taped, .int reads, .ref h_got, .ref h_failing, .ref h_past, .int undoMany, .ref h_aside, .ref h_best, .ref h_tried, .ref h_kept, .ref h_keptPast, .int keptMany, .int isKept, .ref h_sheets], arf G h_sheets 7 4 shf, oc h_sheets_x 8 [.ref h_sheets_x_r], ah G h_sheets_x_r rn rw, oc h_sheets_y 8 [.ref h_sheets_y_r], ai G h_sheets_y_r rn2 rw2] U.heap ∧ gK G U ∧ va_D (fun _ => True) [oc h 0 [.ref h_kinds, .ref h_now, .ref h_fault, .ref h_tape, .int taped, .int reads, .ref h_got, .ref h_failing, .ref h_past, .int undoMany, .ref h_aside, .ref h_best, .ref h_tried, .ref h_kept, .ref h_keptPast, .int keptMany, .int isKept, .ref h_sheets], arf G h_sheets 7 4 shf, oc h_sheets_x 8 [.ref h_sheets_x_r], ah G h_sheets_x_r rn rw, oc h_sheets_y 8 [.ref h_sheets_y_r], ai G h_sheets_y_r rn2 rw2] ∧ stS aS U)) ((fun A => (va_Qi (fun (r : Int32) (u : Unit) => Q r ) (fun u t => va_P G.1 gCl [oc h 0 [.ref h_kinds, .ref h_now, .ref h_fault, .ref h_tape, .int taped, .int reads, .ref h_got, .ref h_failing, .ref h_past, .int undoMany, .ref h_aside, .ref h_best, .ref h_tried, .ref h_kept, .ref h_keptPast, .int keptMany, .int isKept, .ref h_sheets], arf G h_sheets 7 4 shf, oc h_sheets_x 8 [.ref h_sheets_x_r], ah G h_sheets_x_r rn rw, oc h_sheets_y 8 [.ref h_sheets_y_r], ai G h_sheets_y_r rn2 rw2] t.heap ∧ va_D A [oc h 0 [.ref h_kinds, .ref h_now, .ref h_fault, .ref h_tape, .int taped, .int reads, .ref h_got, .ref h_failing, .ref h_past, .int undoMany, .ref h_aside, .ref h_best, .ref h_tried, .ref h_kept, .ref h_keptPast, .int keptMany, .int isKept, .ref h_sheets], arf G h_sheets 7 4 shf, oc h_sheets_x 8 [.ref h_sheets_x_r], ah G h_sheets_x_r rn rw, oc h_sheets_y 8 [.ref h_sheets_y_r], ai G h_sheets_y_r rn2 rw2]) A)) (va_A [oc h 0 [.ref h_kinds, .ref h_now, .ref h_fault, .ref h_tape, .int taped, .int reads, .ref h_got, .ref h_failing, .ref h_past, .int undoMany, .ref h_aside, .ref h_best, .ref h_tried, .ref h_kept, .ref h_keptPast, .int keptMany, .int isKept, .ref h_sheets], arf G h_sheets 7 4 shf, oc h_sheets_x 8 [.ref h_sheets_x_r], ah G h_sheets_x_r rn rw, oc h_sheets_y 8 [.ref h_sheets_y_r], ai G h_sheets_y_r rn2 rw2] sz)) 3 1010 (va_A [oc h 0 [.ref h_kinds, .ref h_now, .ref h_fault, .ref h_tape, .int taped, .int reads, .ref h_got, .ref h_failing, .ref h_past, .int undoMany, .ref h_aside, .ref h_best, .ref h_tried, .ref h_kept, .ref h_keptPast, .int keptMany, .int isKept, .ref h_sheets], arf G h_sheets 7 4 shf, oc h_sheets_x 8 [.ref h_sheets_x_r], ah G h_sheets_x_r rn rw, oc h_sheets_y 8 [.ref h_sheets_y_r], ai G h_sheets_y_r rn2 rw2] sz) := by
  refine va_MetW (hh := [(18, 44, 47, 354), (18, 44, 52, 360), (18, 44, 57, 362)]) (cc := cX0_copy) (maxL := 7) (ret := (some .int)) (by decide) rfl ?_
  intro p e s m args below meth c s₁ B hml hv
  obtain ⟨rfl, hsz, hP, hK, hD0, hst⟩ := hv
  have hx := B.exec
  have hb := B.bytes
  have hr := B.returns
  have hts := atoms_spec (ws := (wsW_ yX0_copy cX0_copy 7 (some .int) [(18, 44, 47, 354), (18, 44, 52, 360), (18, 44, 57, 362)])) B.pre
  have hts : ∀ w ∈ lw_all, w.before _ s = true := fun w h => hts w (List.mem_cons_of_mem _ h)
  have hown : s.vm.findClass RX0 = some m.cls := findClass_of_methodNamed B.named
  have hlocks := B.notSynchronized
  have hhd : c.exceptionTable.toList = [⟨18, 44, 47, 354⟩, ⟨18, 44, 52, 360⟩, ⟨18, 44, 57, 362⟩] := x_hand B (atoms_spec (ws := (wsW_ yX0_copy cX0_copy 7 (some .int) [(18, 44, 47, 354), (18, 44, 52, 360), (18, 44, 57, 362)])) B.pre _ List.mem_cons_self)
  subst hsz
  have hD := hD0.self (sz := s.heap.size)
  generalize hAe : va_A [oc h 0 [.ref h_kinds, .ref h_now, .ref h_fault, .ref h_tape, .int taped, .int reads, .ref h_got, .ref h_failing, .ref h_past, .int undoMany, .ref h_aside, .ref h_best, .ref h_tried, .ref h_kept, .ref h_keptPast, .int keptMany, .int isKept, .ref h_sheets], arf G h_sheets 7 4 shf, oc h_sheets_x 8 [.ref h_sheets_x_r], ah G h_sheets_x_r rn rw, oc h_sheets_y 8 [.ref h_sheets_y_r], ai G h_sheets_y_r rn2 rw2] s.heap.size = A at hD ⊢
  have hA : ∀ q : Nat, s.heap.size ≤ q → A q := fun q h => by rw [← hAe]; exact Or.inr h
  have hS : va_S A s.heap s.heap [] := va_S.rf
  have hX : XCx l aS s A := ⟨hfl, hst, fun q cell hq hc => va_A.ns hP (by rw [hAe]; exact hq) hc⟩
  have C : Cx p s m meth c cX0_copy 7 (some .int) RX0 ([.ref h, .int p1, .int p2, .int p3, .int p4, .int p5] : List Value).toArray G A := ⟨hx, hb, hr, hlocks, hml, hown, hts, hK, hA⟩
  have hl := lv_entry ([.ref h, .int p1, .int p2, .int p3, .int p4, .int p5]) (n := 7) (Nat.le_of_ble_eq_true rfl)
  rw [lg_entry_eq]
  generalize (lg_sl ([.ref h, .int p1, .int p2, .int p3, .int p4, .int p5]) ++ List.replicate (7 - (lg_sl ([.ref h, .int p1, .int p2, .int p3, .int p4, .int p5])).length) Slot.unset).toArray = ls at hl ⊢
  have hl : lv_has ls 7 [(0, .ref h), (1, .int p1), (2, .int p2), (3, .int p3), (4, .int p4), (5, .int p5)] := hl
  unfold wp_X0_copy_SI at hw
  refine lv_iload_n hx hb dX0_copy_0 rfl (lv_at hl 1 rfl) ?_
  refine lv_iconst (v := (0 : Int32)) hx hb dX0_copy_1 (by decide) ?_
  have hPc := hP.sub (ws' := []) [] rfl
  have hDc := hD.sub (ws' := []) [] (by decide) rfl
  have hFc := va_free (wc := []) hD hS hA [] rfl
  refine va_calli (va_runS (As := [.int p1, .int (0 : Int32)]) (rest := []) ⟨hx, hb, hml, hown, hts⟩ (mt_X0_isSheet l G  s.heap.size  p1 (0 : Int32) _ hw) (va_cwS 2 hts (lw_S q648 q649 q54 q650) rfl rfl rfl (by decide +kernel) ⟨Nat.le_of_ble_eq_true rfl, Nat.le_of_ble_eq_true rfl⟩) ⟨fun a U g mk q => by obtain ⟨q0, q1, qP, qK, qD⟩ := q; exact ⟨q0, q1, qP, qK.call, qD⟩, fun U hU hW => ⟨rfl, by rw [hU], by rw [hU]; exact hPc, hK.warm hW, hDc.weaken (fun _ _ _ _ => trivial)⟩⟩ rfl rfl hl.1 rfl (lv_room (Nat.le_of_ble_eq_true rfl)) dX0_copy_2 ⟨Nat.le_of_ble_eq_true rfl, Nat.le_of_ble_eq_true rfl⟩) hS (fun q _ h => hFc q h) hFc (fun r_1 _ t H1 locs ht hvm hw hB hz1 hk1 hS => ?_)
  obtain ⟨hP1, hD1⟩ := hB
  rw [ht] at hP1
  obtain ⟨hP, hD⟩ := va_join (wr := [oc h 0 [.ref h_kinds, .ref h_now, .ref h_fault, .ref h_tape, .int taped, .int reads, .ref h_got, .ref h_failing, .ref h_past, .int undoMany, .ref h_aside, .ref h_best, .ref h_tried, .ref h_kept, .ref h_keptPast, .int keptMany, .int isKept, .ref h_sheets], arf G h_sheets 7 4 shf, oc h_sheets_x 8 [.ref h_sheets_x_r], ah G h_sheets_x_r rn rw, oc h_sheets_y 8 [.ref h_sheets_y_r], ai G h_sheets_y_r rn2 rw2]) (w1 := []) hP hD [] [0, 1, 2, 3, 4, 5] rfl rfl (by decide) (by decide) hk1 hFc hP1 hD1
  clear hPc hDc hFc hP1 hD1 hz1 hk1 hvm
  generalize H1 = H at hP hS ⊢
  have hP : va_P G.1 gCl [oc h 0 [.ref h_kinds, .ref h_now, .ref h_fault, .ref h_tape, .int taped, .int reads, .ref h_got, .ref h_failing, .ref h_past, .int undoMany, .ref h_aside, .ref h_best, .ref h_tried, .ref h_kept, .ref h_keptPast, .int keptMany, .int isKept, .ref h_sheets], arf G h_sheets 7 4 shf, oc h_sheets_x 8 [.ref h_sheets_x_r], ah G h_sheets_x_r rn rw, oc h_sheets_y 8 [.ref h_sheets_y_r], ai G h_sheets_y_r rn2 rw2] H := hP
  have hD : va_D A [oc h 0 [.ref h_kinds, .ref h_now, .ref h_fault, .ref h_tape, .int taped, .int reads, .ref h_got, .ref h_failing, .ref h_past, .int undoMany, .ref h_aside, .ref h_best, .ref h_tried, .ref h_kept, .ref h_keptPast, .int keptMany, .int isKept, .ref h_sheets], arf G h_sheets 7 4 shf, oc h_sheets_x 8 [.ref h_sheets_x_r], ah G h_sheets_x_r rn rw, oc h_sheets_y 8 [.ref h_sheets_y_r], ai G h_sheets_y_r rn2 rw2] := hD
  refine lv_if_eq (tgt := 16) hx hb dX0_copy_5 (by decide) (fun c_2 => ?_) (fun c_2 => ?_)
  · replace hw := hw.1 c_2
    refine lv_iconst (v := (-1 : Int32)) hx hb dX0_copy_16 (by decide) ?_
    have hP9 := hP
    have hD9 := hD
    exact w_widen (k := 3) (n := 1010) (by first | exact Nat.le_of_ble_eq_true rfl | omega) (by first | exact Nat.le_of_ble_eq_true rfl | omega) (W.iret (v := (-1 : Int32)) hx hb hr (fun t ht hW => ⟨⟨(-1 : Int32), (), rfl, hw, by rw [ht]; exact hP9, hD9⟩, hS.F ht⟩) hS.2.2 dX0_copy_17)
  · replace hw := hw.2 c_2
    refine lv_iload_n hx hb dX0_copy_8 rfl (lv_at hl 3 rfl) ?_
    refine lv_iconst (v := (0 : Int32)) hx hb dX0_copy_9 (by decide) ?_
    have hPc := hP.sub (ws' := []) [] rfl
    have hDc := hD.sub (ws' := []) [] (by decide) rfl
    have hFc := va_free (wc := []) hD hS hA [] rfl
    refine va_calli (va_runS (As := [.int p3, .int (0 : Int32)]) (rest := []) ⟨hx, hb, hml, hown, hts⟩ (mt_X0_isSheet l G  H.size  p3 (0 : Int32) _ hw) (va_cwS 2 hts (lw_S q648 q649 q54 q650) rfl rfl rfl (by decide +kernel) ⟨Nat.le_of_ble_eq_true rfl, Nat.le_of_ble_eq_true rfl⟩) ⟨fun a U g mk q => by obtain ⟨q0, q1, qP, qK, qD⟩ := q; exact ⟨q0, q1, qP, qK.call, qD⟩, fun U hU hW => ⟨rfl, by rw [hU], by rw [hU]; exact hPc, hK.warm hW, hDc.weaken (fun _ _ _ _ => trivial)⟩⟩ rfl rfl hl.1 rfl (lv_room (Nat.le_of_ble_eq_true rfl)) dX0_copy_10 ⟨Nat.le_of_ble_eq_true rfl, Nat.le_of_ble_eq_true rfl⟩) hS (fun q _ h => hFc q h) hFc (fun r_3 _ t H1 locs ht hvm hw hB hz1 hk1 hS => ?_)
    obtain ⟨hP1, hD1⟩ := hB
    rw [ht] at hP1
    obtain ⟨hP, hD⟩ := va_join (wr := [oc h 0 [.ref h_kinds, .ref h_now, .ref h_fault, .ref h_tape, .int taped, .int reads, .ref h_got, .ref h_failing, .ref h_past, .int undoMany, .ref h_aside, .ref h_best, .ref h_tried, .ref h_kept, .ref h_keptPast, .int keptMany, .int isKept, .ref h_sheets], arf G h_sheets 7 4 shf, oc h_sheets_x 8 [.ref h_sheets_x_r], ah G h_sheets_x_r rn rw, oc h_sheets_y 8 [.ref h_sheets_y_r], ai G h_sheets_y_r rn2 rw2]) (w1 := []) hP hD [] [0, 1, 2, 3, 4, 5] rfl rfl (by decide) (by decide) hk1 hFc hP1 hD1
    clear hPc hDc hFc hP1 hD1 hz1 hk1 hvm
    generalize H1 = H at hP hS ⊢
    have hP : va_P G.1 gCl [oc h 0 [.ref h_kinds, .ref h_now, .ref h_fault, .ref h_tape, .int taped, .int reads, .ref h_got, .ref h_failing, .ref h_past, .int undoMany, .ref h_aside, .ref h_best, .ref h_tried, .ref h_kept, .ref h_keptPast, .int keptMany, .int isKept, .ref h_sheets], arf G h_sheets 7 4 shf, oc h_sheets_x 8 [.ref h_sheets_x_r], ah G h_sheets_x_r rn rw, oc h_sheets_y 8 [.ref h_sheets_y_r], ai G h_sheets_y_r rn2 rw2] H := hP
    have hD : va_D A [oc h 0 [.ref h_kinds, .ref h_now, .ref h_fault, .ref h_tape, .int taped, .int reads, .ref h_got, .ref h_failing, .ref h_past, .int undoMany, .ref h_aside, .ref h_best, .ref h_tried, .ref h_kept, .ref h_keptPast, .int keptMany, .int isKept, .ref h_sheets], arf G h_sheets 7 4 shf, oc h_sheets_x 8 [.ref h_sheets_x_r], ah G h_sheets_x_r rn rw, oc h_sheets_y 8 [.ref h_sheets_y_r], ai G h_sheets_y_r rn2 rw2] := hD
    refine lv_if_ne (tgt := 18) hx hb dX0_copy_13 (by decide) (fun c_4 => ?_) (fun c_4 => ?_)
    · replace hw := hw.1 c_4
      refine lv_aload_n hx hb dX0_copy_18 rfl (lv_at hl 0 rfl) ?_
      refine va_get (D := G.1) (ci := 0) (v := .ref h_sheets) (C := RX0) (T := TX0) (N := 18) hx hb hts in_X0 hown hK.1 hP 0 rfl rfl 17 (by decide) (hts _ q273) (fun _ h9 => h9) rfl dX0_copy_19 ?_
      refine lv_iload_n hx hb dX0_copy_22 rfl (lv_at hl 1 rfl) ?_
      obtain ⟨i_5, hw⟩ := hw
      refine z_aaldS hx hb hK.1 hP 1 7 rfl rfl i_5 dX0_copy_23 hsh ?_
      refine va_getN (D := G.1) (ci := 8) (v := .ref h_sheets_x_r) (C := RX8) (T := TX8) (N := 1) hx hb hts in_X8 hown hK.1 hP 2 rfl rfl 0 (by decide) (hK.n q251 rfl) (fun _ h9 => h9) rfl dX0_copy_24 ?_
      refine lv_iload_n hx hb dX0_copy_27 rfl (lv_at hl 2 rfl) ?_
      refine lv_aload_n hx hb dX0_copy_28 rfl (lv_at hl 0 rfl) ?_
      refine va_get (D := G.1) (ci := 0) (v := .ref h_sheets) (C := RX0) (T := TX0) (N := 18) hx hb hts in_X0 hown hK.1 hP 0 rfl rfl 17 (by decide) (hts _ q273) (fun _ h9 => h9) rfl dX0_copy_29 ?_
      refine lv_iload_n hx hb dX0_copy_32 rfl (lv_at hl 3 rfl) ?_
      obtain ⟨i_6, hw⟩ := hw
      refine z_aaldS hx hb hK.1 hP 1 7 rfl rfl i_6 dX0_copy_33 hsh2 ?_
      refine va_getN (D := G.1) (ci := 8) (v := .ref h_sheets_y_r) (C := RX8) (T := TX8) (N := 1) hx hb hts in_X8 hown hK.1 hP 4 rfl rfl 0 (by decide) (hK.n q251 rfl) (fun _ h9 => h9) rfl dX0_copy_34 ?_
      refine lv_iload hx hb dX0_copy_37 (lv_at hl 4 rfl) ?_
      refine lv_iload hx hb dX0_copy_39 (lv_at hl 5 rfl) ?_
      refine w_cpType (rest := []) ⟨hx, hb, hml.trans hl.1.symm, hts, hK, hX, hS, hP, hown, hts _ q512, hts _ q440, hts _ q439, hts _ q68, dX0_copy_41, Nat.le_of_ble_eq_true rfl, Nat.le_of_ble_eq_true rfl, Nat.le_of_ble_eq_true rfl, Nat.le_of_ble_eq_true rfl, Nat.le_of_ble_eq_true rfl⟩ 3 5 4 0 rfl rfl rfl rfl (by decide) (fun x_7 H hxo hP hS hz hk => ?_)
      obtain ⟨ce, hce, hcv, hcc⟩ := hxo
      refine wx_catch (cell := ce) hce (by rw [hcv]; rfl) [⟨18, 44, 47, 354⟩] ⟨18, 44, 52, 360⟩ [⟨18, 44, 57, 362⟩] hhd (fun pl hpl z hz => (List.forall_mem_cons.mpr ⟨x_pass (z := ⟨18, 44, 47, 354⟩) (by decide) (by decide) hown (hts _ q734) (hK.2.2 ("java/lang/ArrayStoreException", "java/lang/NullPointerException") (by decide +kernel)) hcc pl hpl, fun _ h9 => absurd h9 List.not_mem_nil⟩) z hz) (by decide) (by decide) hown (hts _ q796) (cT := ce.cls) hcc (vm_refl (args := #[]) (hK.n q808 rfl) hcc) ?_
      refine lv_astore (lv' := [(6, .ref x_7), (0, .ref h), (1, .int p1), (2, .int p2), (3, .int p3), (4, .int p4), (5, .int p5)]) hx hb dX0_copy_52 hl (by decide) rfl (fun ls hl => ?_)
      refine lv_bipush (v := (-12 : Int32)) hx hb dX0_copy_54 (by decide) ?_
      have hP9 := hP
      have hD9 := hD
      exact w_widen (k := 3) (n := 1010) (by first | exact Nat.le_of_ble_eq_true rfl | omega) (by first | exact Nat.le_of_ble_eq_true rfl | omega) (W.iret (v := (-12 : Int32)) hx hb hr (fun t ht hW => ⟨⟨(-12 : Int32), (), rfl, hw, by rw [ht]; exact hP9, hD9⟩, hS.F ht⟩) hS.2.2 dX0_copy_56)
    · replace hw := hw.2 c_4
      refine lv_iconst (v := (-1 : Int32)) hx hb dX0_copy_16 (by decide) ?_
      have hP9 := hP
      have hD9 := hD
      exact w_widen (k := 3) (n := 1010) (by first | exact Nat.le_of_ble_eq_true rfl | omega) (by first | exact Nat.le_of_ble_eq_true rfl | omega) (W.iret (v := (-1 : Int32)) hx hb hr (fun t ht hW => ⟨⟨(-1 : Int32), (), rfl, hw, by rw [ht]; exact hP9, hD9⟩, hS.F ht⟩) hS.2.2 dX0_copy_17)
/-! BattleBench.copy(IIIII)I -/
def wp_X0_copy_SJ (rn : Nat) (rw : Nat → Int32) (rn2 : Nat) (rw2 : Nat → Int64) (p1 : Int32) (p2 : Int32) (p3 : Int32) (p4 : Int32) (p5 : Int32) (Q : Int32 → Prop) : Prop :=
  wp_X0_isSheet  p1 (0 : Int32) (fun r_1 => (((r_1 = 0) → Q (-1 : Int32)) ∧ (¬ (r_1 = 0) → wp_X0_isSheet  p3 (0 : Int32) (fun r_3 => ((¬ (r_3 = 0) → (vp_in p1 4 ∧ (vp_in p3 4 ∧ Q (-12 : Int32)))) ∧ ((r_3 = 0) → Q (-1 : Int32)))))))
set_option maxHeartbeats 4000000 in
theorem mt_X0_copy_SJ (l : Launch) (G : GT) (aS : Nat) (hfl : l.flags = pinnedFlags ++ [noTraceFlag]) (h h_kinds h_now h_fault h_tape h_got h_failing h_past h_aside h_best h_tried h_kept h_keptPast h_sheets h_sheets_x h_sheets_x_r h_sheets_y h_sheets_y_r : Nat) (shf : Nat → Option Nat) (sz : Nat) (taped : Int32) (reads : Int32) (undoMany : Int32) (keptMany : Int32) (isKept : Int32) (rn : Nat) (rw : Nat → Int32) (rn2 : Nat) (rw2 : Nat → Int64) (p1 : Int32) (p2 : Int32) (p3 : Int32) (p4 : Int32) (p5 : Int32)(hsh : shf p1.toNatClampNeg = some h_sheets_x) (hsh2 : shf p3.toNatClampNeg = some h_sheets_y) (Q : Int32 → Prop) (hw : wp_X0_copy_SJ rn rw rn2 rw2 p1 p2 p3 p4 p5 Q) : Met l yX0_copy (wsW_ yX0_copy cX0_copy 7 (some .int) [(18, 44, 47, 354), (18, 44, 52, 360), (18, 44, 57, 362)]) ({ frames := 9, cells := 3, slots := 1010, locals := 10248 } : Room) (va_Pc [.ref h, .int p1, .int p2, .int p3, .int p4, .int p5] (fun U => U.heap.size = sz ∧ va_P G.1 gCl [oc h 0 [.ref h_kinds, .ref h_now, .ref h_fault, .ref h_tape, .int taped, .int reads, .ref h_got, .ref h_failing, .ref h_past, .int undoMany, .ref h_aside, .ref h_best, .ref h_tried, .ref h_kept, .ref h_keptPast, .int keptMany, .int isKept, .ref h_sheets], arf G h_sheets 7 4 shf, oc h_sheets_x 8 [.ref h_sheets_x_r], ah G h_sheets_x_r rn rw, oc h_sheets_y 8 [.ref h_sheets_y_r], al G h_sheets_y_r rn2 rw2] U.heap ∧ gK G U ∧ va_D (fun _ => True) [oc h 0 [.ref h_kinds, .ref h_now, .ref h_fault, .ref h_tape, .int taped, .int reads, .ref h_got, .ref h_failing, .ref h_past, .int undoMany, .ref h_aside, .ref h_best, .ref h_tried, .ref h_kept, .ref h_keptPast, .int keptMany, .int isKept, .ref h_sheets], arf G h_sheets 7 4 shf, oc h_sheets_x 8 [.ref h_sheets_x_r], ah G h_sheets_x_r rn rw, oc h_sheets_y 8 [.ref h_sheets_y_r], al G h_sheets_y_r rn2 rw2] ∧ stS aS U)) ((fun A => (va_Qi (fun (r : Int32) (u : Unit) => Q r ) (fun u t => va_P G.1 gCl [oc h 0 [.ref h_kinds, .ref h_now, .ref h_fault, .ref h_tape, .int taped, .int reads, .ref h_got, .ref h_failing, .ref h_past, .int undoMany, .ref h_aside, .ref h_best, .ref h_tried, .ref h_kept, .ref h_keptPast, .int keptMany, .int isKept, .ref h_sheets], arf G h_sheets 7 4 shf, oc h_sheets_x 8 [.ref h_sheets_x_r], ah G h_sheets_x_r rn rw, oc h_sheets_y 8 [.ref h_sheets_y_r], al G h_sheets_y_r rn2 rw2] t.heap ∧ va_D A [oc h 0 [.ref h_kinds, .ref h_now, .ref h_fault, .ref h_tape, .int taped, .int reads, .ref h_got, .ref h_failing, .ref h_past, .int undoMany, .ref h_aside, .ref h_best, .ref h_tried, .ref h_kept, .ref h_keptPast, .int keptMany, .int isKept, .ref h_sheets], arf G h_sheets 7 4 shf, oc h_sheets_x 8 [.ref h_sheets_x_r], ah G h_sheets_x_r rn rw, oc h_sheets_y 8 [.ref h_sheets_y_r], al G h_sheets_y_r rn2 rw2]) A)) (va_A [oc h 0 [.ref h_kinds, .ref h_now, .ref h_fault, .ref h_tape, .int taped, .int reads, .ref h_got, .ref h_failing, .ref h_past, .int undoMany, .ref h_aside, .ref h_best, .ref h_tried, .ref h_kept, .ref h_keptPast, .int keptMany, .int isKept, .ref h_sheets], arf G h_sheets 7 4 shf, oc h_sheets_x 8 [.ref h_sheets_x_r], ah G h_sheets_x_r rn rw, oc h_sheets_y 8 [.ref h_sheets_y_r], al G h_sheets_y_r rn2 rw2] sz)) 3 1010 (va_A [oc h 0 [.ref h_kinds, .ref h_now, .ref h_fault, .ref h_tape, .int taped, .int reads, .ref h_got, .ref h_failing, .ref h_past, .int undoMany, .ref h_aside, .ref h_best, .ref h_tried, .ref h_kept, .ref h_keptPast, .int keptMany, .int isKept, .ref h_sheets], arf G h_sheets 7 4 shf, oc h_sheets_x 8 [.ref h_sheets_x_r], ah G h_sheets_x_r rn rw, oc h_sheets_y 8 [.ref h_sheets_y_r], al G h_sheets_y_r rn2 rw2] sz) := by
  refine va_MetW (hh := [(18, 44, 47, 354), (18, 44, 52, 360), (18, 44, 57, 362)]) (cc := cX0_copy) (maxL := 7) (ret := (some .int)) (by decide) rfl ?_
  intro p e s m args below meth c s₁ B hml hv
  obtain ⟨rfl, hsz, hP, hK, hD0, hst⟩ := hv
  have hx := B.exec
  have hb := B.bytes
  have hr := B.returns
  have hts := atoms_spec (ws := (wsW_ yX0_copy cX0_copy 7 (some .int) [(18, 44, 47, 354), (18, 44, 52, 360), (18, 44, 57, 362)])) B.pre
  have hts : ∀ w ∈ lw_all, w.before _ s = true := fun w h => hts w (List.mem_cons_of_mem _ h)
  have hown : s.vm.findClass RX0 = some m.cls := findClass_of_methodNamed B.named
  have hlocks := B.notSynchronized
  have hhd : c.exceptionTable.toList = [⟨18, 44, 47, 354⟩, ⟨18, 44, 52, 360⟩, ⟨18, 44, 57, 362⟩] := x_hand B (atoms_spec (ws := (wsW_ yX0_copy cX0_copy 7 (some .int) [(18, 44, 47, 354), (18, 44, 52, 360), (18, 44, 57, 362)])) B.pre _ List.mem_cons_self)
  subst hsz
  have hD := hD0.self (sz := s.heap.size)
  generalize hAe : va_A [oc h 0 [.ref h_kinds, .ref h_now, .ref h_fault, .ref h_tape, .int taped, .int reads, .ref h_got, .ref h_failing, .ref h_past, .int undoMany, .ref h_aside, .ref h_best, .ref h_tried, .ref h_kept, .ref h_keptPast, .int keptMany, .int isKept, .ref h_sheets], arf G h_sheets 7 4 shf, oc h_sheets_x 8 [.ref h_sheets_x_r], ah G h_sheets_x_r rn rw, oc h_sheets_y 8 [.ref h_sheets_y_r], al G h_sheets_y_r rn2 rw2] s.heap.size = A at hD ⊢
  have hA : ∀ q : Nat, s.heap.size ≤ q → A q := fun q h => by rw [← hAe]; exact Or.inr h
  have hS : va_S A s.heap s.heap [] := va_S.rf
  have hX : XCx l aS s A := ⟨hfl, hst, fun q cell hq hc => va_A.ns hP (by rw [hAe]; exact hq) hc⟩
  have C : Cx p s m meth c cX0_copy 7 (some .int) RX0 ([.ref h, .int p1, .int p2, .int p3, .int p4, .int p5] : List Value).toArray G A := ⟨hx, hb, hr, hlocks, hml, hown, hts, hK, hA⟩
  have hl := lv_entry ([.ref h, .int p1, .int p2, .int p3, .int p4, .int p5]) (n := 7) (Nat.le_of_ble_eq_true rfl)
  rw [lg_entry_eq]
  generalize (lg_sl ([.ref h, .int p1, .int p2, .int p3, .int p4, .int p5]) ++ List.replicate (7 - (lg_sl ([.ref h, .int p1, .int p2, .int p3, .int p4, .int p5])).length) Slot.unset).toArray = ls at hl ⊢
  have hl : lv_has ls 7 [(0, .ref h), (1, .int p1), (2, .int p2), (3, .int p3), (4, .int p4), (5, .int p5)] := hl
  unfold wp_X0_copy_SJ at hw
  refine lv_iload_n hx hb dX0_copy_0 rfl (lv_at hl 1 rfl) ?_
  refine lv_iconst (v := (0 : Int32)) hx hb dX0_copy_1 (by decide) ?_
  have hPc := hP.sub (ws' := []) [] rfl
  have hDc := hD.sub (ws' := []) [] (by decide) rfl
  have hFc := va_free (wc := []) hD hS hA [] rfl
  refine va_calli (va_runS (As := [.int p1, .int (0 : Int32)]) (rest := []) ⟨hx, hb, hml, hown, hts⟩ (mt_X0_isSheet l G  s.heap.size  p1 (0 : Int32) _ hw) (va_cwS 2 hts (lw_S q648 q649 q54 q650) rfl rfl rfl (by decide +kernel) ⟨Nat.le_of_ble_eq_true rfl, Nat.le_of_ble_eq_true rfl⟩) ⟨fun a U g mk q => by obtain ⟨q0, q1, qP, qK, qD⟩ := q; exact ⟨q0, q1, qP, qK.call, qD⟩, fun U hU hW => ⟨rfl, by rw [hU], by rw [hU]; exact hPc, hK.warm hW, hDc.weaken (fun _ _ _ _ => trivial)⟩⟩ rfl rfl hl.1 rfl (lv_room (Nat.le_of_ble_eq_true rfl)) dX0_copy_2 ⟨Nat.le_of_ble_eq_true rfl, Nat.le_of_ble_eq_true rfl⟩) hS (fun q _ h => hFc q h) hFc (fun r_1 _ t H1 locs ht hvm hw hB hz1 hk1 hS => ?_)
  obtain ⟨hP1, hD1⟩ := hB
  rw [ht] at hP1
  obtain ⟨hP, hD⟩ := va_join (wr := [oc h 0 [.ref h_kinds, .ref h_now, .ref h_fault, .ref h_tape, .int taped, .int reads, .ref h_got, .ref h_failing, .ref h_past, .int undoMany, .ref h_aside, .ref h_best, .ref h_tried, .ref h_kept, .ref h_keptPast, .int keptMany, .int isKept, .ref h_sheets], arf G h_sheets 7 4 shf, oc h_sheets_x 8 [.ref h_sheets_x_r], ah G h_sheets_x_r rn rw, oc h_sheets_y 8 [.ref h_sheets_y_r], al G h_sheets_y_r rn2 rw2]) (w1 := []) hP hD [] [0, 1, 2, 3, 4, 5] rfl rfl (by decide) (by decide) hk1 hFc hP1 hD1
  clear hPc hDc hFc hP1 hD1 hz1 hk1 hvm
  generalize H1 = H at hP hS ⊢
  have hP : va_P G.1 gCl [oc h 0 [.ref h_kinds, .ref h_now, .ref h_fault, .ref h_tape, .int taped, .int reads, .ref h_got, .ref h_failing, .ref h_past, .int undoMany, .ref h_aside, .ref h_best, .ref h_tried, .ref h_kept, .ref h_keptPast, .int keptMany, .int isKept, .ref h_sheets], arf G h_sheets 7 4 shf, oc h_sheets_x 8 [.ref h_sheets_x_r], ah G h_sheets_x_r rn rw, oc h_sheets_y 8 [.ref h_sheets_y_r], al G h_sheets_y_r rn2 rw2] H := hP
  have hD : va_D A [oc h 0 [.ref h_kinds, .ref h_now, .ref h_fault, .ref h_tape, .int taped, .int reads, .ref h_got, .ref h_failing, .ref h_past, .int undoMany, .ref h_aside, .ref h_best, .ref h_tried, .ref h_kept, .ref h_keptPast, .int keptMany, .int isKept, .ref h_sheets], arf G h_sheets 7 4 shf, oc h_sheets_x 8 [.ref h_sheets_x_r], ah G h_sheets_x_r rn rw, oc h_sheets_y 8 [.ref h_sheets_y_r], al G h_sheets_y_r rn2 rw2] := hD
  refine lv_if_eq (tgt := 16) hx hb dX0_copy_5 (by decide) (fun c_2 => ?_) (fun c_2 => ?_)
  · replace hw := hw.1 c_2
    refine lv_iconst (v := (-1 : Int32)) hx hb dX0_copy_16 (by decide) ?_
    have hP9 := hP
    have hD9 := hD
    exact w_widen (k := 3) (n := 1010) (by first | exact Nat.le_of_ble_eq_true rfl | omega) (by first | exact Nat.le_of_ble_eq_true rfl | omega) (W.iret (v := (-1 : Int32)) hx hb hr (fun t ht hW => ⟨⟨(-1 : Int32), (), rfl, hw, by rw [ht]; exact hP9, hD9⟩, hS.F ht⟩) hS.2.2 dX0_copy_17)
  · replace hw := hw.2 c_2
    refine lv_iload_n hx hb dX0_copy_8 rfl (lv_at hl 3 rfl) ?_
    refine lv_iconst (v := (0 : Int32)) hx hb dX0_copy_9 (by decide) ?_
    have hPc := hP.sub (ws' := []) [] rfl
    have hDc := hD.sub (ws' := []) [] (by decide) rfl
    have hFc := va_free (wc := []) hD hS hA [] rfl
    refine va_calli (va_runS (As := [.int p3, .int (0 : Int32)]) (rest := []) ⟨hx, hb, hml, hown, hts⟩ (mt_X0_isSheet l G  H.size  p3 (0 : Int32) _ hw) (va_cwS 2 hts (lw_S q648 q649 q54 q650) rfl rfl rfl (by decide +kernel) ⟨Nat.le_of_ble_eq_true rfl, Nat.le_of_ble_eq_true rfl⟩) ⟨fun a U g mk q => by obtain ⟨q0, q1, qP, qK, qD⟩ := q; exact ⟨q0, q1, qP, qK.call, qD⟩, fun U hU hW => ⟨rfl, by rw [hU], by rw [hU]; exact hPc, hK.warm hW, hDc.weaken (fun _ _ _ _ => trivial)⟩⟩ rfl rfl hl.1 rfl (lv_room (Nat.le_of_ble_eq_true rfl)) dX0_copy_10 ⟨Nat.le_of_ble_eq_true rfl, Nat.le_of_ble_eq_true rfl⟩) hS (fun q _ h => hFc q h) hFc (fun r_3 _ t H1 locs ht hvm hw hB hz1 hk1 hS => ?_)
    obtain ⟨hP1, hD1⟩ := hB
    rw [ht] at hP1
    obtain ⟨hP, hD⟩ := va_join (wr := [oc h 0 [.ref h_kinds, .ref h_now, .ref h_fault, .ref h_tape, .int taped, .int reads, .ref h_got, .ref h_failing, .ref h_past, .int undoMany, .ref h_aside, .ref h_best, .ref h_tried, .ref h_kept, .ref h_keptPast, .int keptMany, .int isKept, .ref h_sheets], arf G h_sheets 7 4 shf, oc h_sheets_x 8 [.ref h_sheets_x_r], ah G h_sheets_x_r rn rw, oc h_sheets_y 8 [.ref h_sheets_y_r], al G h_sheets_y_r rn2 rw2]) (w1 := []) hP hD [] [0, 1, 2, 3, 4, 5] rfl rfl (by decide) (by decide) hk1 hFc hP1 hD1
    clear hPc hDc hFc hP1 hD1 hz1 hk1 hvm
    generalize H1 = H at hP hS ⊢
    have hP : va_P G.1 gCl [oc h 0 [.ref h_kinds, .ref h_now, .ref h_fault, .ref h_tape, .int taped, .int reads, .ref h_got, .ref h_failing, .ref h_past, .int undoMany, .ref h_aside, .ref h_best, .ref h_tried, .ref h_kept, .ref h_keptPast, .int keptMany, .int isKept, .ref h_sheets], arf G h_sheets 7 4 shf, oc h_sheets_x 8 [.ref h_sheets_x_r], ah G h_sheets_x_r rn rw, oc h_sheets_y 8 [.ref h_sheets_y_r], al G h_sheets_y_r rn2 rw2] H := hP
    have hD : va_D A [oc h 0 [.ref h_kinds, .ref h_now, .ref h_fault, .ref h_tape, .int taped, .int reads, .ref h_got, .ref h_failing, .ref h_past, .int undoMany, .ref h_aside, .ref h_best, .ref h_tried, .ref h_kept, .ref h_keptPast, .int keptMany, .int isKept, .ref h_sheets], arf G h_sheets 7 4 shf, oc h_sheets_x 8 [.ref h_sheets_x_r], ah G h_sheets_x_r rn rw, oc h_sheets_y 8 [.ref h_sheets_y_r], al G h_sheets_y_r rn2 rw2] := hD
    refine lv_if_ne (tgt := 18) hx hb dX0_copy_13 (by decide) (fun c_4 => ?_) (fun c_4 => ?_)
    · replace hw := hw.1 c_4
      refine lv_aload_n hx hb dX0_copy_18 rfl (lv_at hl 0 rfl) ?_
      refine va_get (D := G.1) (ci := 0) (v := .ref h_sheets) (C := RX0) (T := TX0) (N := 18) hx hb hts in_X0 hown hK.1 hP 0 rfl rfl 17 (by decide) (hts _ q273) (fun _ h9 => h9) rfl dX0_copy_19 ?_
      refine lv_iload_n hx hb dX0_copy_22 rfl (lv_at hl 1 rfl) ?_
      obtain ⟨i_5, hw⟩ := hw
      refine z_aaldS hx hb hK.1 hP 1 7 rfl rfl i_5 dX0_copy_23 hsh ?_
      refine va_getN (D := G.1) (ci := 8) (v := .ref h_sheets_x_r) (C := RX8) (T := TX8) (N := 1) hx hb hts in_X8 hown hK.1 hP 2 rfl rfl 0 (by decide) (hK.n q251 rfl) (fun _ h9 => h9) rfl dX0_copy_24 ?_
      refine lv_iload_n hx hb dX0_copy_27 rfl (lv_at hl 2 rfl) ?_
      refine lv_aload_n hx hb dX0_copy_28 rfl (lv_at hl 0 rfl) ?_
      refine va_get (D := G.1) (ci := 0) (v := .ref h_sheets) (C := RX0) (T := TX0) (N := 18) hx hb hts in_X0 hown hK.1 hP 0 rfl rfl 17 (by decide) (hts _ q273) (fun _ h9 => h9) rfl dX0_copy_29 ?_
      refine lv_iload_n hx hb dX0_copy_32 rfl (lv_at hl 3 rfl) ?_
      obtain ⟨i_6, hw⟩ := hw
      refine z_aaldS hx hb hK.1 hP 1 7 rfl rfl i_6 dX0_copy_33 hsh2 ?_
      refine va_getN (D := G.1) (ci := 8) (v := .ref h_sheets_y_r) (C := RX8) (T := TX8) (N := 1) hx hb hts in_X8 hown hK.1 hP 4 rfl rfl 0 (by decide) (hK.n q251 rfl) (fun _ h9 => h9) rfl dX0_copy_34 ?_
      refine lv_iload hx hb dX0_copy_37 (lv_at hl 4 rfl) ?_
      refine lv_iload hx hb dX0_copy_39 (lv_at hl 5 rfl) ?_
      refine w_cpType (rest := []) ⟨hx, hb, hml.trans hl.1.symm, hts, hK, hX, hS, hP, hown, hts _ q512, hts _ q440, hts _ q439, hts _ q68, dX0_copy_41, Nat.le_of_ble_eq_true rfl, Nat.le_of_ble_eq_true rfl, Nat.le_of_ble_eq_true rfl, Nat.le_of_ble_eq_true rfl, Nat.le_of_ble_eq_true rfl⟩ 3 5 4 1 rfl rfl rfl rfl (by decide) (fun x_7 H hxo hP hS hz hk => ?_)
      obtain ⟨ce, hce, hcv, hcc⟩ := hxo
      refine wx_catch (cell := ce) hce (by rw [hcv]; rfl) [⟨18, 44, 47, 354⟩] ⟨18, 44, 52, 360⟩ [⟨18, 44, 57, 362⟩] hhd (fun pl hpl z hz => (List.forall_mem_cons.mpr ⟨x_pass (z := ⟨18, 44, 47, 354⟩) (by decide) (by decide) hown (hts _ q734) (hK.2.2 ("java/lang/ArrayStoreException", "java/lang/NullPointerException") (by decide +kernel)) hcc pl hpl, fun _ h9 => absurd h9 List.not_mem_nil⟩) z hz) (by decide) (by decide) hown (hts _ q796) (cT := ce.cls) hcc (vm_refl (args := #[]) (hK.n q808 rfl) hcc) ?_
      refine lv_astore (lv' := [(6, .ref x_7), (0, .ref h), (1, .int p1), (2, .int p2), (3, .int p3), (4, .int p4), (5, .int p5)]) hx hb dX0_copy_52 hl (by decide) rfl (fun ls hl => ?_)
      refine lv_bipush (v := (-12 : Int32)) hx hb dX0_copy_54 (by decide) ?_
      have hP9 := hP
      have hD9 := hD
      exact w_widen (k := 3) (n := 1010) (by first | exact Nat.le_of_ble_eq_true rfl | omega) (by first | exact Nat.le_of_ble_eq_true rfl | omega) (W.iret (v := (-12 : Int32)) hx hb hr (fun t ht hW => ⟨⟨(-12 : Int32), (), rfl, hw, by rw [ht]; exact hP9, hD9⟩, hS.F ht⟩) hS.2.2 dX0_copy_56)
    · replace hw := hw.2 c_4
      refine lv_iconst (v := (-1 : Int32)) hx hb dX0_copy_16 (by decide) ?_
      have hP9 := hP
      have hD9 := hD
      exact w_widen (k := 3) (n := 1010) (by first | exact Nat.le_of_ble_eq_true rfl | omega) (by first | exact Nat.le_of_ble_eq_true rfl | omega) (W.iret (v := (-1 : Int32)) hx hb hr (fun t ht hW => ⟨⟨(-1 : Int32), (), rfl, hw, by rw [ht]; exact hP9, hD9⟩, hS.F ht⟩) hS.2.2 dX0_copy_17)
/-! BattleBench.copy(IIIII)I -/
def wp_X0_copy_SN (rn : Nat) (rw : Nat → Int32) (p1 : Int32) (p2 : Int32) (p3 : Int32) (p4 : Int32) (p5 : Int32) (Q : Int32 → Prop) : Prop :=
  wp_X0_isSheet  p1 (0 : Int32) (fun r_1 => (((r_1 = 0) → Q (-1 : Int32)) ∧ (¬ (r_1 = 0) → wp_X0_isSheet  p3 (0 : Int32) (fun r_3 => ((¬ (r_3 = 0) → (vp_in p1 4 ∧ (vp_in p3 4 ∧ Q (-11 : Int32)))) ∧ ((r_3 = 0) → Q (-1 : Int32)))))))
set_option maxHeartbeats 4000000 in
theorem mt_X0_copy_SN (l : Launch) (G : GT) (aS : Nat) (hfl : l.flags = pinnedFlags ++ [noTraceFlag]) (h h_kinds h_now h_fault h_tape h_got h_failing h_past h_aside h_best h_tried h_kept h_keptPast h_sheets h_sheets_x h_sheets_x_r h_sheets_y : Nat) (shf : Nat → Option Nat) (sz : Nat) (taped : Int32) (reads : Int32) (undoMany : Int32) (keptMany : Int32) (isKept : Int32) (rn : Nat) (rw : Nat → Int32) (p1 : Int32) (p2 : Int32) (p3 : Int32) (p4 : Int32) (p5 : Int32)(hsh : shf p1.toNatClampNeg = some h_sheets_x) (hsh2 : shf p3.toNatClampNeg = some h_sheets_y) (Q : Int32 → Prop) (hw : wp_X0_copy_SN rn rw p1 p2 p3 p4 p5 Q) : Met l yX0_copy (wsW_ yX0_copy cX0_copy 7 (some .int) [(18, 44, 47, 354), (18, 44, 52, 360), (18, 44, 57, 362)]) ({ frames := 9, cells := 3, slots := 1010, locals := 10248 } : Room) (va_Pc [.ref h, .int p1, .int p2, .int p3, .int p4, .int p5] (fun U => U.heap.size = sz ∧ va_P G.1 gCl [oc h 0 [.ref h_kinds, .ref h_now, .ref h_fault, .ref h_tape, .int taped, .int reads, .ref h_got, .ref h_failing, .ref h_past, .int undoMany, .ref h_aside, .ref h_best, .ref h_tried, .ref h_kept, .ref h_keptPast, .int keptMany, .int isKept, .ref h_sheets], arf G h_sheets 7 4 shf, oc h_sheets_x 8 [.ref h_sheets_x_r], ah G h_sheets_x_r rn rw, oc h_sheets_y 8 [.null]] U.heap ∧ gK G U ∧ va_D (fun _ => True) [oc h 0 [.ref h_kinds, .ref h_now, .ref h_fault, .ref h_tape, .int taped, .int reads, .ref h_got, .ref h_failing, .ref h_past, .int undoMany, .ref h_aside, .ref h_best, .ref h_tried, .ref h_kept, .ref h_keptPast, .int keptMany, .int isKept, .ref h_sheets], arf G h_sheets 7 4 shf, oc h_sheets_x 8 [.ref h_sheets_x_r], ah G h_sheets_x_r rn rw, oc h_sheets_y 8 [.null]] ∧ stS aS U)) ((fun A => (va_Qi (fun (r : Int32) (u : Unit) => Q r ) (fun u t => va_P G.1 gCl [oc h 0 [.ref h_kinds, .ref h_now, .ref h_fault, .ref h_tape, .int taped, .int reads, .ref h_got, .ref h_failing, .ref h_past, .int undoMany, .ref h_aside, .ref h_best, .ref h_tried, .ref h_kept, .ref h_keptPast, .int keptMany, .int isKept, .ref h_sheets], arf G h_sheets 7 4 shf, oc h_sheets_x 8 [.ref h_sheets_x_r], ah G h_sheets_x_r rn rw, oc h_sheets_y 8 [.null]] t.heap ∧ va_D A [oc h 0 [.ref h_kinds, .ref h_now, .ref h_fault, .ref h_tape, .int taped, .int reads, .ref h_got, .ref h_failing, .ref h_past, .int undoMany, .ref h_aside, .ref h_best, .ref h_tried, .ref h_kept, .ref h_keptPast, .int keptMany, .int isKept, .ref h_sheets], arf G h_sheets 7 4 shf, oc h_sheets_x 8 [.ref h_sheets_x_r], ah G h_sheets_x_r rn rw, oc h_sheets_y 8 [.null]]) A)) (va_A [oc h 0 [.ref h_kinds, .ref h_now, .ref h_fault, .ref h_tape, .int taped, .int reads, .ref h_got, .ref h_failing, .ref h_past, .int undoMany, .ref h_aside, .ref h_best, .ref h_tried, .ref h_kept, .ref h_keptPast, .int keptMany, .int isKept, .ref h_sheets], arf G h_sheets 7 4 shf, oc h_sheets_x 8 [.ref h_sheets_x_r], ah G h_sheets_x_r rn rw, oc h_sheets_y 8 [.null]] sz)) 3 1010 (va_A [oc h 0 [.ref h_kinds, .ref h_now, .ref h_fault, .ref h_tape, .int taped, .int reads, .ref h_got, .ref h_failing, .ref h_past, .int undoMany, .ref h_aside, .ref h_best, .ref h_tried, .ref h_kept, .ref h_keptPast, .int keptMany, .int isKept, .ref h_sheets], arf G h_sheets 7 4 shf, oc h_sheets_x 8 [.ref h_sheets_x_r], ah G h_sheets_x_r rn rw, oc h_sheets_y 8 [.null]] sz) := by
  refine va_MetW (hh := [(18, 44, 47, 354), (18, 44, 52, 360), (18, 44, 57, 362)]) (cc := cX0_copy) (maxL := 7) (ret := (some .int)) (by decide) rfl ?_
  intro p e s m args below meth c s₁ B hml hv
  obtain ⟨rfl, hsz, hP, hK, hD0, hst⟩ := hv
  have hx := B.exec
  have hb := B.bytes
  have hr := B.returns
  have hts := atoms_spec (ws := (wsW_ yX0_copy cX0_copy 7 (some .int) [(18, 44, 47, 354), (18, 44, 52, 360), (18, 44, 57, 362)])) B.pre
  have hts : ∀ w ∈ lw_all, w.before _ s = true := fun w h => hts w (List.mem_cons_of_mem _ h)
  have hown : s.vm.findClass RX0 = some m.cls := findClass_of_methodNamed B.named
  have hlocks := B.notSynchronized
  have hhd : c.exceptionTable.toList = [⟨18, 44, 47, 354⟩, ⟨18, 44, 52, 360⟩, ⟨18, 44, 57, 362⟩] := x_hand B (atoms_spec (ws := (wsW_ yX0_copy cX0_copy 7 (some .int) [(18, 44, 47, 354), (18, 44, 52, 360), (18, 44, 57, 362)])) B.pre _ List.mem_cons_self)
  subst hsz
  have hD := hD0.self (sz := s.heap.size)
  generalize hAe : va_A [oc h 0 [.ref h_kinds, .ref h_now, .ref h_fault, .ref h_tape, .int taped, .int reads, .ref h_got, .ref h_failing, .ref h_past, .int undoMany, .ref h_aside, .ref h_best, .ref h_tried, .ref h_kept, .ref h_keptPast, .int keptMany, .int isKept, .ref h_sheets], arf G h_sheets 7 4 shf, oc h_sheets_x 8 [.ref h_sheets_x_r], ah G h_sheets_x_r rn rw, oc h_sheets_y 8 [.null]] s.heap.size = A at hD ⊢
  have hA : ∀ q : Nat, s.heap.size ≤ q → A q := fun q h => by rw [← hAe]; exact Or.inr h
  have hS : va_S A s.heap s.heap [] := va_S.rf
  have hX : XCx l aS s A := ⟨hfl, hst, fun q cell hq hc => va_A.ns hP (by rw [hAe]; exact hq) hc⟩
  have C : Cx p s m meth c cX0_copy 7 (some .int) RX0 ([.ref h, .int p1, .int p2, .int p3, .int p4, .int p5] : List Value).toArray G A := ⟨hx, hb, hr, hlocks, hml, hown, hts, hK, hA⟩
  have hl := lv_entry ([.ref h, .int p1, .int p2, .int p3, .int p4, .int p5]) (n := 7) (Nat.le_of_ble_eq_true rfl)
  rw [lg_entry_eq]
  generalize (lg_sl ([.ref h, .int p1, .int p2, .int p3, .int p4, .int p5]) ++ List.replicate (7 - (lg_sl ([.ref h, .int p1, .int p2, .int p3, .int p4, .int p5])).length) Slot.unset).toArray = ls at hl ⊢
  have hl : lv_has ls 7 [(0, .ref h), (1, .int p1), (2, .int p2), (3, .int p3), (4, .int p4), (5, .int p5)] := hl
  unfold wp_X0_copy_SN at hw
  refine lv_iload_n hx hb dX0_copy_0 rfl (lv_at hl 1 rfl) ?_
  refine lv_iconst (v := (0 : Int32)) hx hb dX0_copy_1 (by decide) ?_
  have hPc := hP.sub (ws' := []) [] rfl
  have hDc := hD.sub (ws' := []) [] (by decide) rfl
  have hFc := va_free (wc := []) hD hS hA [] rfl
  refine va_calli (va_runS (As := [.int p1, .int (0 : Int32)]) (rest := []) ⟨hx, hb, hml, hown, hts⟩ (mt_X0_isSheet l G  s.heap.size  p1 (0 : Int32) _ hw) (va_cwS 2 hts (lw_S q648 q649 q54 q650) rfl rfl rfl (by decide +kernel) ⟨Nat.le_of_ble_eq_true rfl, Nat.le_of_ble_eq_true rfl⟩) ⟨fun a U g mk q => by obtain ⟨q0, q1, qP, qK, qD⟩ := q; exact ⟨q0, q1, qP, qK.call, qD⟩, fun U hU hW => ⟨rfl, by rw [hU], by rw [hU]; exact hPc, hK.warm hW, hDc.weaken (fun _ _ _ _ => trivial)⟩⟩ rfl rfl hl.1 rfl (lv_room (Nat.le_of_ble_eq_true rfl)) dX0_copy_2 ⟨Nat.le_of_ble_eq_true rfl, Nat.le_of_ble_eq_true rfl⟩) hS (fun q _ h => hFc q h) hFc (fun r_1 _ t H1 locs ht hvm hw hB hz1 hk1 hS => ?_)
  obtain ⟨hP1, hD1⟩ := hB
  rw [ht] at hP1
  obtain ⟨hP, hD⟩ := va_join (wr := [oc h 0 [.ref h_kinds, .ref h_now, .ref h_fault, .ref h_tape, .int taped, .int reads, .ref h_got, .ref h_failing, .ref h_past, .int undoMany, .ref h_aside, .ref h_best, .ref h_tried, .ref h_kept, .ref h_keptPast, .int keptMany, .int isKept, .ref h_sheets], arf G h_sheets 7 4 shf, oc h_sheets_x 8 [.ref h_sheets_x_r], ah G h_sheets_x_r rn rw, oc h_sheets_y 8 [.null]]) (w1 := []) hP hD [] [0, 1, 2, 3, 4] rfl rfl (by decide) (by decide) hk1 hFc hP1 hD1
  clear hPc hDc hFc hP1 hD1 hz1 hk1 hvm
  generalize H1 = H at hP hS ⊢
  have hP : va_P G.1 gCl [oc h 0 [.ref h_kinds, .ref h_now, .ref h_fault, .ref h_tape, .int taped, .int reads, .ref h_got, .ref h_failing, .ref h_past, .int undoMany, .ref h_aside, .ref h_best, .ref h_tried, .ref h_kept, .ref h_keptPast, .int keptMany, .int isKept, .ref h_sheets], arf G h_sheets 7 4 shf, oc h_sheets_x 8 [.ref h_sheets_x_r], ah G h_sheets_x_r rn rw, oc h_sheets_y 8 [.null]] H := hP
  have hD : va_D A [oc h 0 [.ref h_kinds, .ref h_now, .ref h_fault, .ref h_tape, .int taped, .int reads, .ref h_got, .ref h_failing, .ref h_past, .int undoMany, .ref h_aside, .ref h_best, .ref h_tried, .ref h_kept, .ref h_keptPast, .int keptMany, .int isKept, .ref h_sheets], arf G h_sheets 7 4 shf, oc h_sheets_x 8 [.ref h_sheets_x_r], ah G h_sheets_x_r rn rw, oc h_sheets_y 8 [.null]] := hD
  refine lv_if_eq (tgt := 16) hx hb dX0_copy_5 (by decide) (fun c_2 => ?_) (fun c_2 => ?_)
  · replace hw := hw.1 c_2
    refine lv_iconst (v := (-1 : Int32)) hx hb dX0_copy_16 (by decide) ?_
    have hP9 := hP
    have hD9 := hD
    exact w_widen (k := 3) (n := 1010) (by first | exact Nat.le_of_ble_eq_true rfl | omega) (by first | exact Nat.le_of_ble_eq_true rfl | omega) (W.iret (v := (-1 : Int32)) hx hb hr (fun t ht hW => ⟨⟨(-1 : Int32), (), rfl, hw, by rw [ht]; exact hP9, hD9⟩, hS.F ht⟩) hS.2.2 dX0_copy_17)
  · replace hw := hw.2 c_2
    refine lv_iload_n hx hb dX0_copy_8 rfl (lv_at hl 3 rfl) ?_
    refine lv_iconst (v := (0 : Int32)) hx hb dX0_copy_9 (by decide) ?_
    have hPc := hP.sub (ws' := []) [] rfl
    have hDc := hD.sub (ws' := []) [] (by decide) rfl
    have hFc := va_free (wc := []) hD hS hA [] rfl
    refine va_calli (va_runS (As := [.int p3, .int (0 : Int32)]) (rest := []) ⟨hx, hb, hml, hown, hts⟩ (mt_X0_isSheet l G  H.size  p3 (0 : Int32) _ hw) (va_cwS 2 hts (lw_S q648 q649 q54 q650) rfl rfl rfl (by decide +kernel) ⟨Nat.le_of_ble_eq_true rfl, Nat.le_of_ble_eq_true rfl⟩) ⟨fun a U g mk q => by obtain ⟨q0, q1, qP, qK, qD⟩ := q; exact ⟨q0, q1, qP, qK.call, qD⟩, fun U hU hW => ⟨rfl, by rw [hU], by rw [hU]; exact hPc, hK.warm hW, hDc.weaken (fun _ _ _ _ => trivial)⟩⟩ rfl rfl hl.1 rfl (lv_room (Nat.le_of_ble_eq_true rfl)) dX0_copy_10 ⟨Nat.le_of_ble_eq_true rfl, Nat.le_of_ble_eq_true rfl⟩) hS (fun q _ h => hFc q h) hFc (fun r_3 _ t H1 locs ht hvm hw hB hz1 hk1 hS => ?_)
    obtain ⟨hP1, hD1⟩ := hB
    rw [ht] at hP1
    obtain ⟨hP, hD⟩ := va_join (wr := [oc h 0 [.ref h_kinds, .ref h_now, .ref h_fault, .ref h_tape, .int taped, .int reads, .ref h_got, .ref h_failing, .ref h_past, .int undoMany, .ref h_aside, .ref h_best, .ref h_tried, .ref h_kept, .ref h_keptPast, .int keptMany, .int isKept, .ref h_sheets], arf G h_sheets 7 4 shf, oc h_sheets_x 8 [.ref h_sheets_x_r], ah G h_sheets_x_r rn rw, oc h_sheets_y 8 [.null]]) (w1 := []) hP hD [] [0, 1, 2, 3, 4] rfl rfl (by decide) (by decide) hk1 hFc hP1 hD1
    clear hPc hDc hFc hP1 hD1 hz1 hk1 hvm
    generalize H1 = H at hP hS ⊢
    have hP : va_P G.1 gCl [oc h 0 [.ref h_kinds, .ref h_now, .ref h_fault, .ref h_tape, .int taped, .int reads, .ref h_got, .ref h_failing, .ref h_past, .int undoMany, .ref h_aside, .ref h_best, .ref h_tried, .ref h_kept, .ref h_keptPast, .int keptMany, .int isKept, .ref h_sheets], arf G h_sheets 7 4 shf, oc h_sheets_x 8 [.ref h_sheets_x_r], ah G h_sheets_x_r rn rw, oc h_sheets_y 8 [.null]] H := hP
    have hD : va_D A [oc h 0 [.ref h_kinds, .ref h_now, .ref h_fault, .ref h_tape, .int taped, .int reads, .ref h_got, .ref h_failing, .ref h_past, .int undoMany, .ref h_aside, .ref h_best, .ref h_tried, .ref h_kept, .ref h_keptPast, .int keptMany, .int isKept, .ref h_sheets], arf G h_sheets 7 4 shf, oc h_sheets_x 8 [.ref h_sheets_x_r], ah G h_sheets_x_r rn rw, oc h_sheets_y 8 [.null]] := hD
    refine lv_if_ne (tgt := 18) hx hb dX0_copy_13 (by decide) (fun c_4 => ?_) (fun c_4 => ?_)
    · replace hw := hw.1 c_4
      refine lv_aload_n hx hb dX0_copy_18 rfl (lv_at hl 0 rfl) ?_
      refine va_get (D := G.1) (ci := 0) (v := .ref h_sheets) (C := RX0) (T := TX0) (N := 18) hx hb hts in_X0 hown hK.1 hP 0 rfl rfl 17 (by decide) (hts _ q273) (fun _ h9 => h9) rfl dX0_copy_19 ?_
      refine lv_iload_n hx hb dX0_copy_22 rfl (lv_at hl 1 rfl) ?_
      obtain ⟨i_5, hw⟩ := hw
      refine z_aaldS hx hb hK.1 hP 1 7 rfl rfl i_5 dX0_copy_23 hsh ?_
      refine va_getN (D := G.1) (ci := 8) (v := .ref h_sheets_x_r) (C := RX8) (T := TX8) (N := 1) hx hb hts in_X8 hown hK.1 hP 2 rfl rfl 0 (by decide) (hK.n q251 rfl) (fun _ h9 => h9) rfl dX0_copy_24 ?_
      refine lv_iload_n hx hb dX0_copy_27 rfl (lv_at hl 2 rfl) ?_
      refine lv_aload_n hx hb dX0_copy_28 rfl (lv_at hl 0 rfl) ?_
      refine va_get (D := G.1) (ci := 0) (v := .ref h_sheets) (C := RX0) (T := TX0) (N := 18) hx hb hts in_X0 hown hK.1 hP 0 rfl rfl 17 (by decide) (hts _ q273) (fun _ h9 => h9) rfl dX0_copy_29 ?_
      refine lv_iload_n hx hb dX0_copy_32 rfl (lv_at hl 3 rfl) ?_
      obtain ⟨i_6, hw⟩ := hw
      refine z_aaldS hx hb hK.1 hP 1 7 rfl rfl i_6 dX0_copy_33 hsh2 ?_
      refine va_getN (D := G.1) (ci := 8) (v := .null) (C := RX8) (T := TX8) (N := 1) hx hb hts in_X8 hown hK.1 hP 4 rfl rfl 0 (by decide) (hK.n q251 rfl) (fun _ h9 => h9) rfl dX0_copy_34 ?_
      refine lv_iload hx hb dX0_copy_37 (lv_at hl 4 rfl) ?_
      refine lv_iload hx hb dX0_copy_39 (lv_at hl 5 rfl) ?_
      refine w_cpNull (a := (some h_sheets_x_r)) (b := none) (rest := []) ⟨hx, hb, hml.trans hl.1.symm, hts, hK, hX, hS, hP, hown, hts _ q512, hts _ q440, hts _ q439, hts _ q68, dX0_copy_41, Nat.le_of_ble_eq_true rfl, Nat.le_of_ble_eq_true rfl, Nat.le_of_ble_eq_true rfl, Nat.le_of_ble_eq_true rfl, Nat.le_of_ble_eq_true rfl⟩ (Or.inr rfl) (fun x_7 H hxo hP hS hz hk => ?_)
      obtain ⟨ce, hce, hcv, hcc⟩ := hxo
      refine wx_catch (cell := ce) hce (by rw [hcv]; rfl) [] ⟨18, 44, 47, 354⟩ [⟨18, 44, 52, 360⟩, ⟨18, 44, 57, 362⟩] hhd (fun _ _ z hz => by cases hz) (by decide) (by decide) hown (hts _ q734) (cT := ce.cls) hcc (vm_refl (args := #[]) (hK.n q756 rfl) hcc) ?_
      refine lv_astore (lv' := [(6, .ref x_7), (0, .ref h), (1, .int p1), (2, .int p2), (3, .int p3), (4, .int p4), (5, .int p5)]) hx hb dX0_copy_47 hl (by decide) rfl (fun ls hl => ?_)
      refine lv_bipush (v := (-11 : Int32)) hx hb dX0_copy_49 (by decide) ?_
      have hP9 := hP
      have hD9 := hD
      exact w_widen (k := 3) (n := 1010) (by first | exact Nat.le_of_ble_eq_true rfl | omega) (by first | exact Nat.le_of_ble_eq_true rfl | omega) (W.iret (v := (-11 : Int32)) hx hb hr (fun t ht hW => ⟨⟨(-11 : Int32), (), rfl, hw, by rw [ht]; exact hP9, hD9⟩, hS.F ht⟩) hS.2.2 dX0_copy_51)
    · replace hw := hw.2 c_4
      refine lv_iconst (v := (-1 : Int32)) hx hb dX0_copy_16 (by decide) ?_
      have hP9 := hP
      have hD9 := hD
      exact w_widen (k := 3) (n := 1010) (by first | exact Nat.le_of_ble_eq_true rfl | omega) (by first | exact Nat.le_of_ble_eq_true rfl | omega) (W.iret (v := (-1 : Int32)) hx hb hr (fun t ht hW => ⟨⟨(-1 : Int32), (), rfl, hw, by rw [ht]; exact hP9, hD9⟩, hS.F ht⟩) hS.2.2 dX0_copy_17)
/-! BattleBench.copy(IIIII)I -/
def wp_X0_copy_Se (rn : Nat) (rw : Nat → Int32) (p1 : Int32) (p2 : Int32) (p3 : Int32) (p4 : Int32) (p5 : Int32) (Q : Int32 → ((Nat → Int32)) → Prop) : Prop :=
  wp_X0_isSheet  p1 (0 : Int32) (fun r_1 => (((r_1 = 0) → Q (-1 : Int32) rw) ∧ (¬ (r_1 = 0) → wp_X0_isSheet  p3 (0 : Int32) (fun r_3 => ((¬ (r_3 = 0) → (vp_in p1 4 ∧ (vp_in p3 4 ∧ ((cpOk p2 p4 p5 rn rn → ((∀ i, i < p5.toNatClampNeg → fits .short (.int (rw (p2.toNatClampNeg + i))) = true) ∧ ∀ f_9 : Nat → Int32, f_9 = va_cpy rw rw p2.toNatClampNeg p4.toNatClampNeg p5.toNatClampNeg → Q p5 f_9)) ∧ (¬ cpOk p2 p4 p5 rn rn → (rn < 2147483648 ∧ rn < 2147483648 ∧ Q (-13 : Int32) rw)))))) ∧ ((r_3 = 0) → Q (-1 : Int32) rw))))))
set_option maxHeartbeats 4000000 in
theorem mt_X0_copy_Se (l : Launch) (G : GT) (aS : Nat) (hfl : l.flags = pinnedFlags ++ [noTraceFlag]) (h h_kinds h_now h_fault h_tape h_got h_failing h_past h_aside h_best h_tried h_kept h_keptPast h_sheets h_sheets_x h_sheets_x_r : Nat) (shf : Nat → Option Nat) (sz : Nat) (taped : Int32) (reads : Int32) (undoMany : Int32) (keptMany : Int32) (isKept : Int32) (rn : Nat) (rw : Nat → Int32) (p1 : Int32) (p2 : Int32) (p3 : Int32) (p4 : Int32) (p5 : Int32)(hsh : shf p1.toNatClampNeg = some h_sheets_x) (hsh2 : shf p3.toNatClampNeg = some h_sheets_x) (Q : Int32 → ((Nat → Int32)) → Prop) (hw : wp_X0_copy_Se rn rw p1 p2 p3 p4 p5 Q) : Met l yX0_copy (wsW_ yX0_copy cX0_copy 7 (some .int) [(18, 44, 47, 354), (18, 44, 52, 360), (18, 44, 57, 362)]) ({ frames := 9, cells := 3, slots := 1010, locals := 10248 } : Room) (va_Pc [.ref h, .int p1, .int p2, .int p3, .int p4, .int p5] (fun U => U.heap.size = sz ∧ va_P G.1 gCl [oc h 0 [.ref h_kinds, .ref h_now, .ref h_fault, .ref h_tape, .int taped, .int reads, .ref h_got, .ref h_failing, .ref h_past, .int undoMany, .ref h_aside, .ref h_best, .ref h_tried, .ref h_kept, .ref h_keptPast, .int keptMany, .int isKept, .ref h_sheets], arf G h_sheets 7 4 shf, oc h_sheets_x 8 [.ref h_sheets_x_r], ah G h_sheets_x_r rn rw] U.heap ∧ gK G U ∧ va_D (fun _ => True) [oc h 0 [.ref h_kinds, .ref h_now, .ref h_fault, .ref h_tape, .int taped, .int reads, .ref h_got, .ref h_failing, .ref h_past, .int undoMany, .ref h_aside, .ref h_best, .ref h_tried, .ref h_kept, .ref h_keptPast, .int keptMany, .int isKept, .ref h_sheets], arf G h_sheets 7 4 shf, oc h_sheets_x 8 [.ref h_sheets_x_r], ah G h_sheets_x_r rn rw] ∧ stS aS U)) ((fun A => (va_Qi (fun (r : Int32) (u : (Nat → Int32)) => Q r u) (fun u t => va_P G.1 gCl [oc h 0 [.ref h_kinds, .ref h_now, .ref h_fault, .ref h_tape, .int taped, .int reads, .ref h_got, .ref h_failing, .ref h_past, .int undoMany, .ref h_aside, .ref h_best, .ref h_tried, .ref h_kept, .ref h_keptPast, .int keptMany, .int isKept, .ref h_sheets], arf G h_sheets 7 4 shf, oc h_sheets_x 8 [.ref h_sheets_x_r], ah G h_sheets_x_r rn u] t.heap ∧ va_D A [oc h 0 [.ref h_kinds, .ref h_now, .ref h_fault, .ref h_tape, .int taped, .int reads, .ref h_got, .ref h_failing, .ref h_past, .int undoMany, .ref h_aside, .ref h_best, .ref h_tried, .ref h_kept, .ref h_keptPast, .int keptMany, .int isKept, .ref h_sheets], arf G h_sheets 7 4 shf, oc h_sheets_x 8 [.ref h_sheets_x_r], ah G h_sheets_x_r rn u]) A)) (va_A [oc h 0 [.ref h_kinds, .ref h_now, .ref h_fault, .ref h_tape, .int taped, .int reads, .ref h_got, .ref h_failing, .ref h_past, .int undoMany, .ref h_aside, .ref h_best, .ref h_tried, .ref h_kept, .ref h_keptPast, .int keptMany, .int isKept, .ref h_sheets], arf G h_sheets 7 4 shf, oc h_sheets_x 8 [.ref h_sheets_x_r], ah G h_sheets_x_r rn rw] sz)) 3 1010 (va_A [oc h 0 [.ref h_kinds, .ref h_now, .ref h_fault, .ref h_tape, .int taped, .int reads, .ref h_got, .ref h_failing, .ref h_past, .int undoMany, .ref h_aside, .ref h_best, .ref h_tried, .ref h_kept, .ref h_keptPast, .int keptMany, .int isKept, .ref h_sheets], arf G h_sheets 7 4 shf, oc h_sheets_x 8 [.ref h_sheets_x_r], ah G h_sheets_x_r rn rw] sz) := by
  refine va_MetW (hh := [(18, 44, 47, 354), (18, 44, 52, 360), (18, 44, 57, 362)]) (cc := cX0_copy) (maxL := 7) (ret := (some .int)) (by decide) rfl ?_
  intro p e s m args below meth c s₁ B hml hv
  obtain ⟨rfl, hsz, hP, hK, hD0, hst⟩ := hv
  have hx := B.exec
  have hb := B.bytes
  have hr := B.returns
  have hts := atoms_spec (ws := (wsW_ yX0_copy cX0_copy 7 (some .int) [(18, 44, 47, 354), (18, 44, 52, 360), (18, 44, 57, 362)])) B.pre
  have hts : ∀ w ∈ lw_all, w.before _ s = true := fun w h => hts w (List.mem_cons_of_mem _ h)
  have hown : s.vm.findClass RX0 = some m.cls := findClass_of_methodNamed B.named
  have hlocks := B.notSynchronized
  have hhd : c.exceptionTable.toList = [⟨18, 44, 47, 354⟩, ⟨18, 44, 52, 360⟩, ⟨18, 44, 57, 362⟩] := x_hand B (atoms_spec (ws := (wsW_ yX0_copy cX0_copy 7 (some .int) [(18, 44, 47, 354), (18, 44, 52, 360), (18, 44, 57, 362)])) B.pre _ List.mem_cons_self)
  subst hsz
  have hD := hD0.self (sz := s.heap.size)
  generalize hAe : va_A [oc h 0 [.ref h_kinds, .ref h_now, .ref h_fault, .ref h_tape, .int taped, .int reads, .ref h_got, .ref h_failing, .ref h_past, .int undoMany, .ref h_aside, .ref h_best, .ref h_tried, .ref h_kept, .ref h_keptPast, .int keptMany, .int isKept, .ref h_sheets], arf G h_sheets 7 4 shf, oc h_sheets_x 8 [.ref h_sheets_x_r], ah G h_sheets_x_r rn rw] s.heap.size = A at hD ⊢
  have hA : ∀ q : Nat, s.heap.size ≤ q → A q := fun q h => by rw [← hAe]; exact Or.inr h
  have hS : va_S A s.heap s.heap [] := va_S.rf
  have hX : XCx l aS s A := ⟨hfl, hst, fun q cell hq hc => va_A.ns hP (by rw [hAe]; exact hq) hc⟩
  have C : Cx p s m meth c cX0_copy 7 (some .int) RX0 ([.ref h, .int p1, .int p2, .int p3, .int p4, .int p5] : List Value).toArray G A := ⟨hx, hb, hr, hlocks, hml, hown, hts, hK, hA⟩
  have hl := lv_entry ([.ref h, .int p1, .int p2, .int p3, .int p4, .int p5]) (n := 7) (Nat.le_of_ble_eq_true rfl)
  rw [lg_entry_eq]
  generalize (lg_sl ([.ref h, .int p1, .int p2, .int p3, .int p4, .int p5]) ++ List.replicate (7 - (lg_sl ([.ref h, .int p1, .int p2, .int p3, .int p4, .int p5])).length) Slot.unset).toArray = ls at hl ⊢
  have hl : lv_has ls 7 [(0, .ref h), (1, .int p1), (2, .int p2), (3, .int p3), (4, .int p4), (5, .int p5)] := hl
  unfold wp_X0_copy_Se at hw
  refine lv_iload_n hx hb dX0_copy_0 rfl (lv_at hl 1 rfl) ?_
  refine lv_iconst (v := (0 : Int32)) hx hb dX0_copy_1 (by decide) ?_
  have hPc := hP.sub (ws' := []) [] rfl
  have hDc := hD.sub (ws' := []) [] (by decide) rfl
  have hFc := va_free (wc := []) hD hS hA [] rfl
  refine va_calli (va_runS (As := [.int p1, .int (0 : Int32)]) (rest := []) ⟨hx, hb, hml, hown, hts⟩ (mt_X0_isSheet l G  s.heap.size  p1 (0 : Int32) _ hw) (va_cwS 2 hts (lw_S q648 q649 q54 q650) rfl rfl rfl (by decide +kernel) ⟨Nat.le_of_ble_eq_true rfl, Nat.le_of_ble_eq_true rfl⟩) ⟨fun a U g mk q => by obtain ⟨q0, q1, qP, qK, qD⟩ := q; exact ⟨q0, q1, qP, qK.call, qD⟩, fun U hU hW => ⟨rfl, by rw [hU], by rw [hU]; exact hPc, hK.warm hW, hDc.weaken (fun _ _ _ _ => trivial)⟩⟩ rfl rfl hl.1 rfl (lv_room (Nat.le_of_ble_eq_true rfl)) dX0_copy_2 ⟨Nat.le_of_ble_eq_true rfl, Nat.le_of_ble_eq_true rfl⟩) hS (fun q _ h => hFc q h) hFc (fun r_1 _ t H1 locs ht hvm hw hB hz1 hk1 hS => ?_)
  obtain ⟨hP1, hD1⟩ := hB
  rw [ht] at hP1
  obtain ⟨hP, hD⟩ := va_join (wr := [oc h 0 [.ref h_kinds, .ref h_now, .ref h_fault, .ref h_tape, .int taped, .int reads, .ref h_got, .ref h_failing, .ref h_past, .int undoMany, .ref h_aside, .ref h_best, .ref h_tried, .ref h_kept, .ref h_keptPast, .int keptMany, .int isKept, .ref h_sheets], arf G h_sheets 7 4 shf, oc h_sheets_x 8 [.ref h_sheets_x_r], ah G h_sheets_x_r rn rw]) (w1 := []) hP hD [] [0, 1, 2, 3] rfl rfl (by decide) (by decide) hk1 hFc hP1 hD1
  clear hPc hDc hFc hP1 hD1 hz1 hk1 hvm
  generalize H1 = H at hP hS ⊢
  have hP : va_P G.1 gCl [oc h 0 [.ref h_kinds, .ref h_now, .ref h_fault, .ref h_tape, .int taped, .int reads, .ref h_got, .ref h_failing, .ref h_past, .int undoMany, .ref h_aside, .ref h_best, .ref h_tried, .ref h_kept, .ref h_keptPast, .int keptMany, .int isKept, .ref h_sheets], arf G h_sheets 7 4 shf, oc h_sheets_x 8 [.ref h_sheets_x_r], ah G h_sheets_x_r rn rw] H := hP
  have hD : va_D A [oc h 0 [.ref h_kinds, .ref h_now, .ref h_fault, .ref h_tape, .int taped, .int reads, .ref h_got, .ref h_failing, .ref h_past, .int undoMany, .ref h_aside, .ref h_best, .ref h_tried, .ref h_kept, .ref h_keptPast, .int keptMany, .int isKept, .ref h_sheets], arf G h_sheets 7 4 shf, oc h_sheets_x 8 [.ref h_sheets_x_r], ah G h_sheets_x_r rn rw] := hD
  refine lv_if_eq (tgt := 16) hx hb dX0_copy_5 (by decide) (fun c_2 => ?_) (fun c_2 => ?_)
  · replace hw := hw.1 c_2
    refine lv_iconst (v := (-1 : Int32)) hx hb dX0_copy_16 (by decide) ?_
    have hP9 := hP
    have hD9 := hD
    exact w_widen (k := 3) (n := 1010) (by first | exact Nat.le_of_ble_eq_true rfl | omega) (by first | exact Nat.le_of_ble_eq_true rfl | omega) (W.iret (v := (-1 : Int32)) hx hb hr (fun t ht hW => ⟨⟨(-1 : Int32), rw, rfl, hw, by rw [ht]; exact hP9, hD9⟩, hS.F ht⟩) hS.2.2 dX0_copy_17)
  · replace hw := hw.2 c_2
    refine lv_iload_n hx hb dX0_copy_8 rfl (lv_at hl 3 rfl) ?_
    refine lv_iconst (v := (0 : Int32)) hx hb dX0_copy_9 (by decide) ?_
    have hPc := hP.sub (ws' := []) [] rfl
    have hDc := hD.sub (ws' := []) [] (by decide) rfl
    have hFc := va_free (wc := []) hD hS hA [] rfl
    refine va_calli (va_runS (As := [.int p3, .int (0 : Int32)]) (rest := []) ⟨hx, hb, hml, hown, hts⟩ (mt_X0_isSheet l G  H.size  p3 (0 : Int32) _ hw) (va_cwS 2 hts (lw_S q648 q649 q54 q650) rfl rfl rfl (by decide +kernel) ⟨Nat.le_of_ble_eq_true rfl, Nat.le_of_ble_eq_true rfl⟩) ⟨fun a U g mk q => by obtain ⟨q0, q1, qP, qK, qD⟩ := q; exact ⟨q0, q1, qP, qK.call, qD⟩, fun U hU hW => ⟨rfl, by rw [hU], by rw [hU]; exact hPc, hK.warm hW, hDc.weaken (fun _ _ _ _ => trivial)⟩⟩ rfl rfl hl.1 rfl (lv_room (Nat.le_of_ble_eq_true rfl)) dX0_copy_10 ⟨Nat.le_of_ble_eq_true rfl, Nat.le_of_ble_eq_true rfl⟩) hS (fun q _ h => hFc q h) hFc (fun r_3 _ t H1 locs ht hvm hw hB hz1 hk1 hS => ?_)
    obtain ⟨hP1, hD1⟩ := hB
    rw [ht] at hP1
    obtain ⟨hP, hD⟩ := va_join (wr := [oc h 0 [.ref h_kinds, .ref h_now, .ref h_fault, .ref h_tape, .int taped, .int reads, .ref h_got, .ref h_failing, .ref h_past, .int undoMany, .ref h_aside, .ref h_best, .ref h_tried, .ref h_kept, .ref h_keptPast, .int keptMany, .int isKept, .ref h_sheets], arf G h_sheets 7 4 shf, oc h_sheets_x 8 [.ref h_sheets_x_r], ah G h_sheets_x_r rn rw]) (w1 := []) hP hD [] [0, 1, 2, 3] rfl rfl (by decide) (by decide) hk1 hFc hP1 hD1
    clear hPc hDc hFc hP1 hD1 hz1 hk1 hvm
    generalize H1 = H at hP hS ⊢
    have hP : va_P G.1 gCl [oc h 0 [.ref h_kinds, .ref h_now, .ref h_fault, .ref h_tape, .int taped, .int reads, .ref h_got, .ref h_failing, .ref h_past, .int undoMany, .ref h_aside, .ref h_best, .ref h_tried, .ref h_kept, .ref h_keptPast, .int keptMany, .int isKept, .ref h_sheets], arf G h_sheets 7 4 shf, oc h_sheets_x 8 [.ref h_sheets_x_r], ah G h_sheets_x_r rn rw] H := hP
    have hD : va_D A [oc h 0 [.ref h_kinds, .ref h_now, .ref h_fault, .ref h_tape, .int taped, .int reads, .ref h_got, .ref h_failing, .ref h_past, .int undoMany, .ref h_aside, .ref h_best, .ref h_tried, .ref h_kept, .ref h_keptPast, .int keptMany, .int isKept, .ref h_sheets], arf G h_sheets 7 4 shf, oc h_sheets_x 8 [.ref h_sheets_x_r], ah G h_sheets_x_r rn rw] := hD
    refine lv_if_ne (tgt := 18) hx hb dX0_copy_13 (by decide) (fun c_4 => ?_) (fun c_4 => ?_)
    · replace hw := hw.1 c_4
      refine lv_aload_n hx hb dX0_copy_18 rfl (lv_at hl 0 rfl) ?_
      refine va_get (D := G.1) (ci := 0) (v := .ref h_sheets) (C := RX0) (T := TX0) (N := 18) hx hb hts in_X0 hown hK.1 hP 0 rfl rfl 17 (by decide) (hts _ q273) (fun _ h9 => h9) rfl dX0_copy_19 ?_
      refine lv_iload_n hx hb dX0_copy_22 rfl (lv_at hl 1 rfl) ?_
      obtain ⟨i_5, hw⟩ := hw
      refine z_aaldS hx hb hK.1 hP 1 7 rfl rfl i_5 dX0_copy_23 hsh ?_
      refine va_getN (D := G.1) (ci := 8) (v := .ref h_sheets_x_r) (C := RX8) (T := TX8) (N := 1) hx hb hts in_X8 hown hK.1 hP 2 rfl rfl 0 (by decide) (hK.n q251 rfl) (fun _ h9 => h9) rfl dX0_copy_24 ?_
      refine lv_iload_n hx hb dX0_copy_27 rfl (lv_at hl 2 rfl) ?_
      refine lv_aload_n hx hb dX0_copy_28 rfl (lv_at hl 0 rfl) ?_
      refine va_get (D := G.1) (ci := 0) (v := .ref h_sheets) (C := RX0) (T := TX0) (N := 18) hx hb hts in_X0 hown hK.1 hP 0 rfl rfl 17 (by decide) (hts _ q273) (fun _ h9 => h9) rfl dX0_copy_29 ?_
      refine lv_iload_n hx hb dX0_copy_32 rfl (lv_at hl 3 rfl) ?_
      obtain ⟨i_6, hw⟩ := hw
      refine z_aaldS hx hb hK.1 hP 1 7 rfl rfl i_6 dX0_copy_33 hsh2 ?_
      refine va_getN (D := G.1) (ci := 8) (v := .ref h_sheets_x_r) (C := RX8) (T := TX8) (N := 1) hx hb hts in_X8 hown hK.1 hP 2 rfl rfl 0 (by decide) (hK.n q251 rfl) (fun _ h9 => h9) rfl dX0_copy_34 ?_
      refine lv_iload hx hb dX0_copy_37 (lv_at hl 4 rfl) ?_
      refine lv_iload hx hb dX0_copy_39 (lv_at hl 5 rfl) ?_
      by_cases c_8 : cpOk p2 p4 p5 rn rn
      · replace hw := hw.1 c_8
        obtain ⟨i_10, hw⟩ := hw
        refine z_cpI hx hb (hml.trans hl.1.symm) hown (hts _ q512) (hts _ q440) (hts _ q439) (hts _ q68) hK.1 hP hD hS 3 3 4 rfl rfl rfl rfl rfl c_8 i_10 (Nat.le_of_ble_eq_true rfl) (Nat.le_of_ble_eq_true rfl) dX0_copy_41 (fun f_9 ef_9 H locs hP hD hS => ?_)
        replace hw := hw f_9 ef_9
        have hP : va_P G.1 gCl [oc h 0 [.ref h_kinds, .ref h_now, .ref h_fault, .ref h_tape, .int taped, .int reads, .ref h_got, .ref h_failing, .ref h_past, .int undoMany, .ref h_aside, .ref h_best, .ref h_tried, .ref h_kept, .ref h_keptPast, .int keptMany, .int isKept, .ref h_sheets], arf G h_sheets 7 4 shf, oc h_sheets_x 8 [.ref h_sheets_x_r], ah G h_sheets_x_r rn f_9] H := hP
        have hD : va_D A [oc h 0 [.ref h_kinds, .ref h_now, .ref h_fault, .ref h_tape, .int taped, .int reads, .ref h_got, .ref h_failing, .ref h_past, .int undoMany, .ref h_aside, .ref h_best, .ref h_tried, .ref h_kept, .ref h_keptPast, .int keptMany, .int isKept, .ref h_sheets], arf G h_sheets 7 4 shf, oc h_sheets_x 8 [.ref h_sheets_x_r], ah G h_sheets_x_r rn f_9] := hD
        refine lv_goto (tgt := 62) hx hb dX0_copy_44 (by decide) ?_
        refine lv_iload hx hb dX0_copy_62 (lv_at hl 5 rfl) ?_
        have hP9 := hP
        have hD9 := hD
        exact w_widen (k := 3) (n := 1010) (by first | exact Nat.le_of_ble_eq_true rfl | omega) (by first | exact Nat.le_of_ble_eq_true rfl | omega) (W.iret (v := p5) hx hb hr (fun t ht hW => ⟨⟨p5, f_9, rfl, hw, by rw [ht]; exact hP9, hD9⟩, hS.F ht⟩) hS.2.2 dX0_copy_64)
      · obtain ⟨h31, h32, hw⟩ := hw.2 c_8
        refine w_cpOut (rest := []) ⟨hx, hb, hml.trans hl.1.symm, hts, hK, hX, hS, hP, hown, hts _ q512, hts _ q440, hts _ q439, hts _ q68, dX0_copy_41, Nat.le_of_ble_eq_true rfl, Nat.le_of_ble_eq_true rfl, Nat.le_of_ble_eq_true rfl, Nat.le_of_ble_eq_true rfl, Nat.le_of_ble_eq_true rfl⟩ 3 3 4 4 rfl rfl rfl rfl h31 h32 c_8 (fun x_7 H hxo hP hS hz hk => ?_)
        obtain ⟨ce, hce, hcv, hcc⟩ := hxo
        obtain ⟨c1, cT, hc1, hcT, hfit⟩ := Cond.castable_spec (args := #[]) (hK.n (args := #[]) q1127 rfl)
        cases hc1.symm.trans hcc
        refine wx_catch (cell := ce) hce (by rw [hcv]; rfl) [⟨18, 44, 47, 354⟩, ⟨18, 44, 52, 360⟩] ⟨18, 44, 57, 362⟩ [] hhd (fun pl hpl z hz => (List.forall_mem_cons.mpr ⟨x_pass (z := ⟨18, 44, 47, 354⟩) (by decide) (by decide) hown (hts _ q734) (hK.2.2 ("java/lang/ArrayIndexOutOfBoundsException", "java/lang/NullPointerException") (by decide +kernel)) hcc pl hpl, (List.forall_mem_cons.mpr ⟨x_pass (z := ⟨18, 44, 52, 360⟩) (by decide) (by decide) hown (hts _ q796) (hK.2.2 ("java/lang/ArrayIndexOutOfBoundsException", "java/lang/ArrayStoreException") (by decide +kernel)) hcc pl hpl, fun _ h9 => absurd h9 List.not_mem_nil⟩)⟩) z hz) (by decide) (by decide) hown (hts _ q810) (cT := cT) hcT hfit ?_
        refine lv_astore (lv' := [(6, .ref x_7), (0, .ref h), (1, .int p1), (2, .int p2), (3, .int p3), (4, .int p4), (5, .int p5)]) hx hb dX0_copy_57 hl (by decide) rfl (fun ls hl => ?_)
        refine lv_bipush (v := (-13 : Int32)) hx hb dX0_copy_59 (by decide) ?_
        have hP9 := hP
        have hD9 := hD
        exact w_widen (k := 3) (n := 1010) (by first | exact Nat.le_of_ble_eq_true rfl | omega) (by first | exact Nat.le_of_ble_eq_true rfl | omega) (W.iret (v := (-13 : Int32)) hx hb hr (fun t ht hW => ⟨⟨(-13 : Int32), rw, rfl, hw, by rw [ht]; exact hP9, hD9⟩, hS.F ht⟩) hS.2.2 dX0_copy_61)
    · replace hw := hw.2 c_4
      refine lv_iconst (v := (-1 : Int32)) hx hb dX0_copy_16 (by decide) ?_
      have hP9 := hP
      have hD9 := hD
      exact w_widen (k := 3) (n := 1010) (by first | exact Nat.le_of_ble_eq_true rfl | omega) (by first | exact Nat.le_of_ble_eq_true rfl | omega) (W.iret (v := (-1 : Int32)) hx hb hr (fun t ht hW => ⟨⟨(-1 : Int32), rw, rfl, hw, by rw [ht]; exact hP9, hD9⟩, hS.F ht⟩) hS.2.2 dX0_copy_17)
/-! BattleBench.copy(IIIII)I -/
def wp_X0_copy_IB (rn : Nat) (rw : Nat → Int32) (rn2 : Nat) (rw2 : Nat → Int32) (p1 : Int32) (p2 : Int32) (p3 : Int32) (p4 : Int32) (p5 : Int32) (Q : Int32 → Prop) : Prop :=
  wp_X0_isSheet  p1 (0 : Int32) (fun r_1 => (((r_1 = 0) → Q (-1 : Int32)) ∧ (¬ (r_1 = 0) → wp_X0_isSheet  p3 (0 : Int32) (fun r_3 => ((¬ (r_3 = 0) → (vp_in p1 4 ∧ (vp_in p3 4 ∧ Q (-12 : Int32)))) ∧ ((r_3 = 0) → Q (-1 : Int32)))))))
set_option maxHeartbeats 4000000 in
theorem mt_X0_copy_IB (l : Launch) (G : GT) (aS : Nat) (hfl : l.flags = pinnedFlags ++ [noTraceFlag]) (h h_kinds h_now h_fault h_tape h_got h_failing h_past h_aside h_best h_tried h_kept h_keptPast h_sheets h_sheets_x h_sheets_x_r h_sheets_y h_sheets_y_r : Nat) (shf : Nat → Option Nat) (sz : Nat) (taped : Int32) (reads : Int32) (undoMany : Int32) (keptMany : Int32) (isKept : Int32) (rn : Nat) (rw : Nat → Int32) (rn2 : Nat) (rw2 : Nat → Int32) (p1 : Int32) (p2 : Int32) (p3 : Int32) (p4 : Int32) (p5 : Int32)(hsh : shf p1.toNatClampNeg = some h_sheets_x) (hsh2 : shf p3.toNatClampNeg = some h_sheets_y) (Q : Int32 → Prop) (hw : wp_X0_copy_IB rn rw rn2 rw2 p1 p2 p3 p4 p5 Q) : Met l yX0_copy (wsW_ yX0_copy cX0_copy 7 (some .int) [(18, 44, 47, 354), (18, 44, 52, 360), (18, 44, 57, 362)]) ({ frames := 9, cells := 3, slots := 1010, locals := 10248 } : Room) (va_Pc [.ref h, .int p1, .int p2, .int p3, .int p4, .int p5] (fun U => U.heap.size = sz ∧ va_P G.1 gCl [oc h 0 [.ref h_kinds, .ref h_now, .ref h_fault, .ref h_tape, .int taped, .int reads, .ref h_got, .ref h_failing, .ref h_past, .int undoMany, .ref h_aside, .ref h_best, .ref h_tried, .ref h_kept, .ref h_keptPast, .int keptMany, .int isKept, .ref h_sheets], arf G h_sheets 7 4 shf, oc h_sheets_x 8 [.ref h_sheets_x_r], ai G h_sheets_x_r rn rw, oc h_sheets_y 8 [.ref h_sheets_y_r], ay G h_sheets_y_r rn2 rw2] U.heap ∧ gK G U ∧ va_D (fun _ => True) [oc h 0 [.ref h_kinds, .ref h_now, .ref h_fault, .ref h_tape, .int taped, .int reads, .ref h_got, .ref h_failing, .ref h_past, .int undoMany, .ref h_aside, .ref h_best, .ref h_tried, .ref h_kept, .ref h_keptPast, .int keptMany, .int isKept, .ref h_sheets], arf G h_sheets 7 4 shf, oc h_sheets_x 8 [.ref h_sheets_x_r], ai G h_sheets_x_r rn rw, oc h_sheets_y 8 [.ref h_sheets_y_r], ay G h_sheets_y_r rn2 rw2] ∧ stS aS U)) ((fun A => (va_Qi (fun (r : Int32) (u : Unit) => Q r ) (fun u t => va_P G.1 gCl [oc h 0 [.ref h_kinds, .ref h_now, .ref h_fault, .ref h_tape, .int taped, .int reads, .ref h_got, .ref h_failing, .ref h_past, .int undoMany, .ref h_aside, .ref h_best, .ref h_tried, .ref h_kept, .ref h_keptPast, .int keptMany, .int isKept, .ref h_sheets], arf G h_sheets 7 4 shf, oc h_sheets_x 8 [.ref h_sheets_x_r], ai G h_sheets_x_r rn rw, oc h_sheets_y 8 [.ref h_sheets_y_r], ay G h_sheets_y_r rn2 rw2] t.heap ∧ va_D A [oc h 0 [.ref h_kinds, .ref h_now, .ref h_fault, .ref h_tape, .int taped, .int reads, .ref h_got, .ref h_failing, .ref h_past, .int undoMany, .ref h_aside, .ref h_best, .ref h_tried, .ref h_kept, .ref h_keptPast, .int keptMany, .int isKept, .ref h_sheets], arf G h_sheets 7 4 shf, oc h_sheets_x 8 [.ref h_sheets_x_r], ai G h_sheets_x_r rn rw, oc h_sheets_y 8 [.ref h_sheets_y_r], ay G h_sheets_y_r rn2 rw2]) A)) (va_A [oc h 0 [.ref h_kinds, .ref h_now, .ref h_fault, .ref h_tape, .int taped, .int reads, .ref h_got, .ref h_failing, .ref h_past, .int undoMany, .ref h_aside, .ref h_best, .ref h_tried, .ref h_kept, .ref h_keptPast, .int keptMany, .int isKept, .ref h_sheets], arf G h_sheets 7 4 shf, oc h_sheets_x 8 [.ref h_sheets_x_r], ai G h_sheets_x_r rn rw, oc h_sheets_y 8 [.ref h_sheets_y_r], ay G h_sheets_y_r rn2 rw2] sz)) 3 1010 (va_A [oc h 0 [.ref h_kinds, .ref h_now, .ref h_fault, .ref h_tape, .int taped, .int reads, .ref h_got, .ref h_failing, .ref h_past, .int undoMany, .ref h_aside, .ref h_best, .ref h_tried, .ref h_kept, .ref h_keptPast, .int keptMany, .int isKept, .ref h_sheets], arf G h_sheets 7 4 shf, oc h_sheets_x 8 [.ref h_sheets_x_r], ai G h_sheets_x_r rn rw, oc h_sheets_y 8 [.ref h_sheets_y_r], ay G h_sheets_y_r rn2 rw2] sz) := by
  refine va_MetW (hh := [(18, 44, 47, 354), (18, 44, 52, 360), (18, 44, 57, 362)]) (cc := cX0_copy) (maxL := 7) (ret := (some .int)) (by decide) rfl ?_
  intro p e s m args below meth c s₁ B hml hv
  obtain ⟨rfl, hsz, hP, hK, hD0, hst⟩ := hv
  have hx := B.exec
  have hb := B.bytes
  have hr := B.returns
  have hts := atoms_spec (ws := (wsW_ yX0_copy cX0_copy 7 (some .int) [(18, 44, 47, 354), (18, 44, 52, 360), (18, 44, 57, 362)])) B.pre
  have hts : ∀ w ∈ lw_all, w.before _ s = true := fun w h => hts w (List.mem_cons_of_mem _ h)
  have hown : s.vm.findClass RX0 = some m.cls := findClass_of_methodNamed B.named
  have hlocks := B.notSynchronized
  have hhd : c.exceptionTable.toList = [⟨18, 44, 47, 354⟩, ⟨18, 44, 52, 360⟩, ⟨18, 44, 57, 362⟩] := x_hand B (atoms_spec (ws := (wsW_ yX0_copy cX0_copy 7 (some .int) [(18, 44, 47, 354), (18, 44, 52, 360), (18, 44, 57, 362)])) B.pre _ List.mem_cons_self)
  subst hsz
  have hD := hD0.self (sz := s.heap.size)
  generalize hAe : va_A [oc h 0 [.ref h_kinds, .ref h_now, .ref h_fault, .ref h_tape, .int taped, .int reads, .ref h_got, .ref h_failing, .ref h_past, .int undoMany, .ref h_aside, .ref h_best, .ref h_tried, .ref h_kept, .ref h_keptPast, .int keptMany, .int isKept, .ref h_sheets], arf G h_sheets 7 4 shf, oc h_sheets_x 8 [.ref h_sheets_x_r], ai G h_sheets_x_r rn rw, oc h_sheets_y 8 [.ref h_sheets_y_r], ay G h_sheets_y_r rn2 rw2] s.heap.size = A at hD ⊢
  have hA : ∀ q : Nat, s.heap.size ≤ q → A q := fun q h => by rw [← hAe]; exact Or.inr h
  have hS : va_S A s.heap s.heap [] := va_S.rf
  have hX : XCx l aS s A := ⟨hfl, hst, fun q cell hq hc => va_A.ns hP (by rw [hAe]; exact hq) hc⟩
  have C : Cx p s m meth c cX0_copy 7 (some .int) RX0 ([.ref h, .int p1, .int p2, .int p3, .int p4, .int p5] : List Value).toArray G A := ⟨hx, hb, hr, hlocks, hml, hown, hts, hK, hA⟩
  have hl := lv_entry ([.ref h, .int p1, .int p2, .int p3, .int p4, .int p5]) (n := 7) (Nat.le_of_ble_eq_true rfl)
  rw [lg_entry_eq]
  generalize (lg_sl ([.ref h, .int p1, .int p2, .int p3, .int p4, .int p5]) ++ List.replicate (7 - (lg_sl ([.ref h, .int p1, .int p2, .int p3, .int p4, .int p5])).length) Slot.unset).toArray = ls at hl ⊢
  have hl : lv_has ls 7 [(0, .ref h), (1, .int p1), (2, .int p2), (3, .int p3), (4, .int p4), (5, .int p5)] := hl
  unfold wp_X0_copy_IB at hw
  refine lv_iload_n hx hb dX0_copy_0 rfl (lv_at hl 1 rfl) ?_
  refine lv_iconst (v := (0 : Int32)) hx hb dX0_copy_1 (by decide) ?_
  have hPc := hP.sub (ws' := []) [] rfl
  have hDc := hD.sub (ws' := []) [] (by decide) rfl
  have hFc := va_free (wc := []) hD hS hA [] rfl
  refine va_calli (va_runS (As := [.int p1, .int (0 : Int32)]) (rest := []) ⟨hx, hb, hml, hown, hts⟩ (mt_X0_isSheet l G  s.heap.size  p1 (0 : Int32) _ hw) (va_cwS 2 hts (lw_S q648 q649 q54 q650) rfl rfl rfl (by decide +kernel) ⟨Nat.le_of_ble_eq_true rfl, Nat.le_of_ble_eq_true rfl⟩) ⟨fun a U g mk q => by obtain ⟨q0, q1, qP, qK, qD⟩ := q; exact ⟨q0, q1, qP, qK.call, qD⟩, fun U hU hW => ⟨rfl, by rw [hU], by rw [hU]; exact hPc, hK.warm hW, hDc.weaken (fun _ _ _ _ => trivial)⟩⟩ rfl rfl hl.1 rfl (lv_room (Nat.le_of_ble_eq_true rfl)) dX0_copy_2 ⟨Nat.le_of_ble_eq_true rfl, Nat.le_of_ble_eq_true rfl⟩) hS (fun q _ h => hFc q h) hFc (fun r_1 _ t H1 locs ht hvm hw hB hz1 hk1 hS => ?_)
  obtain ⟨hP1, hD1⟩ := hB
  rw [ht] at hP1
  obtain ⟨hP, hD⟩ := va_join (wr := [oc h 0 [.ref h_kinds, .ref h_now, .ref h_fault, .ref h_tape, .int taped, .int reads, .ref h_got, .ref h_failing, .ref h_past, .int undoMany, .ref h_aside, .ref h_best, .ref h_tried, .ref h_kept, .ref h_keptPast, .int keptMany, .int isKept, .ref h_sheets], arf G h_sheets 7 4 shf, oc h_sheets_x 8 [.ref h_sheets_x_r], ai G h_sheets_x_r rn rw, oc h_sheets_y 8 [.ref h_sheets_y_r], ay G h_sheets_y_r rn2 rw2]) (w1 := []) hP hD [] [0, 1, 2, 3, 4, 5] rfl rfl (by decide) (by decide) hk1 hFc hP1 hD1
  clear hPc hDc hFc hP1 hD1 hz1 hk1 hvm
  generalize H1 = H at hP hS ⊢
  have hP : va_P G.1 gCl [oc h 0 [.ref h_kinds, .ref h_now, .ref h_fault, .ref h_tape, .int taped, .int reads, .ref h_got, .ref h_failing, .ref h_past, .int undoMany, .ref h_aside, .ref h_best, .ref h_tried, .ref h_kept, .ref h_keptPast, .int keptMany, .int isKept, .ref h_sheets], arf G h_sheets 7 4 shf, oc h_sheets_x 8 [.ref h_sheets_x_r], ai G h_sheets_x_r rn rw, oc h_sheets_y 8 [.ref h_sheets_y_r], ay G h_sheets_y_r rn2 rw2] H := hP
  have hD : va_D A [oc h 0 [.ref h_kinds, .ref h_now, .ref h_fault, .ref h_tape, .int taped, .int reads, .ref h_got, .ref h_failing, .ref h_past, .int undoMany, .ref h_aside, .ref h_best, .ref h_tried, .ref h_kept, .ref h_keptPast, .int keptMany, .int isKept, .ref h_sheets], arf G h_sheets 7 4 shf, oc h_sheets_x 8 [.ref h_sheets_x_r], ai G h_sheets_x_r rn rw, oc h_sheets_y 8 [.ref h_sheets_y_r], ay G h_sheets_y_r rn2 rw2] := hD
  refine lv_if_eq (tgt := 16) hx hb dX0_copy_5 (by decide) (fun c_2 => ?_) (fun c_2 => ?_)
  · replace hw := hw.1 c_2
    refine lv_iconst (v := (-1 : Int32)) hx hb dX0_copy_16 (by decide) ?_
    have hP9 := hP
    have hD9 := hD
    exact w_widen (k := 3) (n := 1010) (by first | exact Nat.le_of_ble_eq_true rfl | omega) (by first | exact Nat.le_of_ble_eq_true rfl | omega) (W.iret (v := (-1 : Int32)) hx hb hr (fun t ht hW => ⟨⟨(-1 : Int32), (), rfl, hw, by rw [ht]; exact hP9, hD9⟩, hS.F ht⟩) hS.2.2 dX0_copy_17)
  · replace hw := hw.2 c_2
    refine lv_iload_n hx hb dX0_copy_8 rfl (lv_at hl 3 rfl) ?_
    refine lv_iconst (v := (0 : Int32)) hx hb dX0_copy_9 (by decide) ?_
    have hPc := hP.sub (ws' := []) [] rfl
    have hDc := hD.sub (ws' := []) [] (by decide) rfl
    have hFc := va_free (wc := []) hD hS hA [] rfl
    refine va_calli (va_runS (As := [.int p3, .int (0 : Int32)]) (rest := []) ⟨hx, hb, hml, hown, hts⟩ (mt_X0_isSheet l G  H.size  p3 (0 : Int32) _ hw) (va_cwS 2 hts (lw_S q648 q649 q54 q650) rfl rfl rfl (by decide +kernel) ⟨Nat.le_of_ble_eq_true rfl, Nat.le_of_ble_eq_true rfl⟩) ⟨fun a U g mk q => by obtain ⟨q0, q1, qP, qK, qD⟩ := q; exact ⟨q0, q1, qP, qK.call, qD⟩, fun U hU hW => ⟨rfl, by rw [hU], by rw [hU]; exact hPc, hK.warm hW, hDc.weaken (fun _ _ _ _ => trivial)⟩⟩ rfl rfl hl.1 rfl (lv_room (Nat.le_of_ble_eq_true rfl)) dX0_copy_10 ⟨Nat.le_of_ble_eq_true rfl, Nat.le_of_ble_eq_true rfl⟩) hS (fun q _ h => hFc q h) hFc (fun r_3 _ t H1 locs ht hvm hw hB hz1 hk1 hS => ?_)
    obtain ⟨hP1, hD1⟩ := hB
    rw [ht] at hP1
    obtain ⟨hP, hD⟩ := va_join (wr := [oc h 0 [.ref h_kinds, .ref h_now, .ref h_fault, .ref h_tape, .int taped, .int reads, .ref h_got, .ref h_failing, .ref h_past, .int undoMany, .ref h_aside, .ref h_best, .ref h_tried, .ref h_kept, .ref h_keptPast, .int keptMany, .int isKept, .ref h_sheets], arf G h_sheets 7 4 shf, oc h_sheets_x 8 [.ref h_sheets_x_r], ai G h_sheets_x_r rn rw, oc h_sheets_y 8 [.ref h_sheets_y_r], ay G h_sheets_y_r rn2 rw2]) (w1 := []) hP hD [] [0, 1, 2, 3, 4, 5] rfl rfl (by decide) (by decide) hk1 hFc hP1 hD1
    clear hPc hDc hFc hP1 hD1 hz1 hk1 hvm
    generalize H1 = H at hP hS ⊢
    have hP : va_P G.1 gCl [oc h 0 [.ref h_kinds, .ref h_now, .ref h_fault, .ref h_tape, .int taped, .int reads, .ref h_got, .ref h_failing, .ref h_past, .int undoMany, .ref h_aside, .ref h_best, .ref h_tried, .ref h_kept, .ref h_keptPast, .int keptMany, .int isKept, .ref h_sheets], arf G h_sheets 7 4 shf, oc h_sheets_x 8 [.ref h_sheets_x_r], ai G h_sheets_x_r rn rw, oc h_sheets_y 8 [.ref h_sheets_y_r], ay G h_sheets_y_r rn2 rw2] H := hP
    have hD : va_D A [oc h 0 [.ref h_kinds, .ref h_now, .ref h_fault, .ref h_tape, .int taped, .int reads, .ref h_got, .ref h_failing, .ref h_past, .int undoMany, .ref h_aside, .ref h_best, .ref h_tried, .ref h_kept, .ref h_keptPast, .int keptMany, .int isKept, .ref h_sheets], arf G h_sheets 7 4 shf, oc h_sheets_x 8 [.ref h_sheets_x_r], ai G h_sheets_x_r rn rw, oc h_sheets_y 8 [.ref h_sheets_y_r], ay G h_sheets_y_r rn2 rw2] := hD
    refine lv_if_ne (tgt := 18) hx hb dX0_copy_13 (by decide) (fun c_4 => ?_) (fun c_4 => ?_)
    · replace hw := hw.1 c_4
      refine lv_aload_n hx hb dX0_copy_18 rfl (lv_at hl 0 rfl) ?_
      refine va_get (D := G.1) (ci := 0) (v := .ref h_sheets) (C := RX0) (T := TX0) (N := 18) hx hb hts in_X0 hown hK.1 hP 0 rfl rfl 17 (by decide) (hts _ q273) (fun _ h9 => h9) rfl dX0_copy_19 ?_
      refine lv_iload_n hx hb dX0_copy_22 rfl (lv_at hl 1 rfl) ?_
      obtain ⟨i_5, hw⟩ := hw
      refine z_aaldS hx hb hK.1 hP 1 7 rfl rfl i_5 dX0_copy_23 hsh ?_
      refine va_getN (D := G.1) (ci := 8) (v := .ref h_sheets_x_r) (C := RX8) (T := TX8) (N := 1) hx hb hts in_X8 hown hK.1 hP 2 rfl rfl 0 (by decide) (hK.n q251 rfl) (fun _ h9 => h9) rfl dX0_copy_24 ?_
      refine lv_iload_n hx hb dX0_copy_27 rfl (lv_at hl 2 rfl) ?_
      refine lv_aload_n hx hb dX0_copy_28 rfl (lv_at hl 0 rfl) ?_
      refine va_get (D := G.1) (ci := 0) (v := .ref h_sheets) (C := RX0) (T := TX0) (N := 18) hx hb hts in_X0 hown hK.1 hP 0 rfl rfl 17 (by decide) (hts _ q273) (fun _ h9 => h9) rfl dX0_copy_29 ?_
      refine lv_iload_n hx hb dX0_copy_32 rfl (lv_at hl 3 rfl) ?_
      obtain ⟨i_6, hw⟩ := hw
      refine z_aaldS hx hb hK.1 hP 1 7 rfl rfl i_6 dX0_copy_33 hsh2 ?_
      refine va_getN (D := G.1) (ci := 8) (v := .ref h_sheets_y_r) (C := RX8) (T := TX8) (N := 1) hx hb hts in_X8 hown hK.1 hP 4 rfl rfl 0 (by decide) (hK.n q251 rfl) (fun _ h9 => h9) rfl dX0_copy_34 ?_
      refine lv_iload hx hb dX0_copy_37 (lv_at hl 4 rfl) ?_
      refine lv_iload hx hb dX0_copy_39 (lv_at hl 5 rfl) ?_
      refine w_cpType (rest := []) ⟨hx, hb, hml.trans hl.1.symm, hts, hK, hX, hS, hP, hown, hts _ q512, hts _ q440, hts _ q439, hts _ q68, dX0_copy_41, Nat.le_of_ble_eq_true rfl, Nat.le_of_ble_eq_true rfl, Nat.le_of_ble_eq_true rfl, Nat.le_of_ble_eq_true rfl, Nat.le_of_ble_eq_true rfl⟩ 3 5 0 3 rfl rfl rfl rfl (by decide) (fun x_7 H hxo hP hS hz hk => ?_)
      obtain ⟨ce, hce, hcv, hcc⟩ := hxo
      refine wx_catch (cell := ce) hce (by rw [hcv]; rfl) [⟨18, 44, 47, 354⟩] ⟨18, 44, 52, 360⟩ [⟨18, 44, 57, 362⟩] hhd (fun pl hpl z hz => (List.forall_mem_cons.mpr ⟨x_pass (z := ⟨18, 44, 47, 354⟩) (by decide) (by decide) hown (hts _ q734) (hK.2.2 ("java/lang/ArrayStoreException", "java/lang/NullPointerException") (by decide +kernel)) hcc pl hpl, fun _ h9 => absurd h9 List.not_mem_nil⟩) z hz) (by decide) (by decide) hown (hts _ q796) (cT := ce.cls) hcc (vm_refl (args := #[]) (hK.n q808 rfl) hcc) ?_
      refine lv_astore (lv' := [(6, .ref x_7), (0, .ref h), (1, .int p1), (2, .int p2), (3, .int p3), (4, .int p4), (5, .int p5)]) hx hb dX0_copy_52 hl (by decide) rfl (fun ls hl => ?_)
      refine lv_bipush (v := (-12 : Int32)) hx hb dX0_copy_54 (by decide) ?_
      have hP9 := hP
      have hD9 := hD
      exact w_widen (k := 3) (n := 1010) (by first | exact Nat.le_of_ble_eq_true rfl | omega) (by first | exact Nat.le_of_ble_eq_true rfl | omega) (W.iret (v := (-12 : Int32)) hx hb hr (fun t ht hW => ⟨⟨(-12 : Int32), (), rfl, hw, by rw [ht]; exact hP9, hD9⟩, hS.F ht⟩) hS.2.2 dX0_copy_56)
    · replace hw := hw.2 c_4
      refine lv_iconst (v := (-1 : Int32)) hx hb dX0_copy_16 (by decide) ?_
      have hP9 := hP
      have hD9 := hD
      exact w_widen (k := 3) (n := 1010) (by first | exact Nat.le_of_ble_eq_true rfl | omega) (by first | exact Nat.le_of_ble_eq_true rfl | omega) (W.iret (v := (-1 : Int32)) hx hb hr (fun t ht hW => ⟨⟨(-1 : Int32), (), rfl, hw, by rw [ht]; exact hP9, hD9⟩, hS.F ht⟩) hS.2.2 dX0_copy_17)
/-! BattleBench.copy(IIIII)I -/
def wp_X0_copy_IS (rn : Nat) (rw : Nat → Int32) (rn2 : Nat) (rw2 : Nat → Int32) (p1 : Int32) (p2 : Int32) (p3 : Int32) (p4 : Int32) (p5 : Int32) (Q : Int32 → Prop) : Prop :=
  wp_X0_isSheet  p1 (0 : Int32) (fun r_1 => (((r_1 = 0) → Q (-1 : Int32)) ∧ (¬ (r_1 = 0) → wp_X0_isSheet  p3 (0 : Int32) (fun r_3 => ((¬ (r_3 = 0) → (vp_in p1 4 ∧ (vp_in p3 4 ∧ Q (-12 : Int32)))) ∧ ((r_3 = 0) → Q (-1 : Int32)))))))
set_option maxHeartbeats 4000000 in
theorem mt_X0_copy_IS (l : Launch) (G : GT) (aS : Nat) (hfl : l.flags = pinnedFlags ++ [noTraceFlag]) (h h_kinds h_now h_fault h_tape h_got h_failing h_past h_aside h_best h_tried h_kept h_keptPast h_sheets h_sheets_x h_sheets_x_r h_sheets_y h_sheets_y_r : Nat) (shf : Nat → Option Nat) (sz : Nat) (taped : Int32) (reads : Int32) (undoMany : Int32) (keptMany : Int32) (isKept : Int32) (rn : Nat) (rw : Nat → Int32) (rn2 : Nat) (rw2 : Nat → Int32) (p1 : Int32) (p2 : Int32) (p3 : Int32) (p4 : Int32) (p5 : Int32)(hsh : shf p1.toNatClampNeg = some h_sheets_x) (hsh2 : shf p3.toNatClampNeg = some h_sheets_y) (Q : Int32 → Prop) (hw : wp_X0_copy_IS rn rw rn2 rw2 p1 p2 p3 p4 p5 Q) : Met l yX0_copy (wsW_ yX0_copy cX0_copy 7 (some .int) [(18, 44, 47, 354), (18, 44, 52, 360), (18, 44, 57, 362)]) ({ frames := 9, cells := 3, slots := 1010, locals := 10248 } : Room) (va_Pc [.ref h, .int p1, .int p2, .int p3, .int p4, .int p5] (fun U => U.heap.size = sz ∧ va_P G.1 gCl [oc h 0 [.ref h_kinds, .ref h_now, .ref h_fault, .ref h_tape, .int taped, .int reads, .ref h_got, .ref h_failing, .ref h_past, .int undoMany, .ref h_aside, .ref h_best, .ref h_tried, .ref h_kept, .ref h_keptPast, .int keptMany, .int isKept, .ref h_sheets], arf G h_sheets 7 4 shf, oc h_sheets_x 8 [.ref h_sheets_x_r], ai G h_sheets_x_r rn rw, oc h_sheets_y 8 [.ref h_sheets_y_r], ah G h_sheets_y_r rn2 rw2] U.heap ∧ gK G U ∧ va_D (fun _ => True) [oc h 0 [.ref h_kinds, .ref h_now, .ref h_fault, .ref h_tape, .int taped, .int reads, .ref h_got, .ref h_failing, .ref h_past, .int undoMany, .ref h_aside, .ref h_best, .ref h_tried, .ref h_kept, .ref h_keptPast, .int keptMany, .int isKept, .ref h_sheets], arf G h_sheets 7 4 shf, oc h_sheets_x 8 [.ref h_sheets_x_r], ai G h_sheets_x_r rn rw, oc h_sheets_y 8 [.ref h_sheets_y_r], ah G h_sheets_y_r rn2 rw2] ∧ stS aS U)) ((fun A => (va_Qi (fun (r : Int32) (u : Unit) => Q r ) (fun u t => va_P G.1 gCl [oc h 0 [.ref h_kinds, .ref h_now, .ref h_fault, .ref h_tape, .int taped, .int reads, .ref h_got, .ref h_failing, .ref h_past, .int undoMany, .ref h_aside, .ref h_best, .ref h_tried, .ref h_kept, .ref h_keptPast, .int keptMany, .int isKept, .ref h_sheets], arf G h_sheets 7 4 shf, oc h_sheets_x 8 [.ref h_sheets_x_r], ai G h_sheets_x_r rn rw, oc h_sheets_y 8 [.ref h_sheets_y_r], ah G h_sheets_y_r rn2 rw2] t.heap ∧ va_D A [oc h 0 [.ref h_kinds, .ref h_now, .ref h_fault, .ref h_tape, .int taped, .int reads, .ref h_got, .ref h_failing, .ref h_past, .int undoMany, .ref h_aside, .ref h_best, .ref h_tried, .ref h_kept, .ref h_keptPast, .int keptMany, .int isKept, .ref h_sheets], arf G h_sheets 7 4 shf, oc h_sheets_x 8 [.ref h_sheets_x_r], ai G h_sheets_x_r rn rw, oc h_sheets_y 8 [.ref h_sheets_y_r], ah G h_sheets_y_r rn2 rw2]) A)) (va_A [oc h 0 [.ref h_kinds, .ref h_now, .ref h_fault, .ref h_tape, .int taped, .int reads, .ref h_got, .ref h_failing, .ref h_past, .int undoMany, .ref h_aside, .ref h_best, .ref h_tried, .ref h_kept, .ref h_keptPast, .int keptMany, .int isKept, .ref h_sheets], arf G h_sheets 7 4 shf, oc h_sheets_x 8 [.ref h_sheets_x_r], ai G h_sheets_x_r rn rw, oc h_sheets_y 8 [.ref h_sheets_y_r], ah G h_sheets_y_r rn2 rw2] sz)) 3 1010 (va_A [oc h 0 [.ref h_kinds, .ref h_now, .ref h_fault, .ref h_tape, .int taped, .int reads, .ref h_got, .ref h_failing, .ref h_past, .int undoMany, .ref h_aside, .ref h_best, .ref h_tried, .ref h_kept, .ref h_keptPast, .int keptMany, .int isKept, .ref h_sheets], arf G h_sheets 7 4 shf, oc h_sheets_x 8 [.ref h_sheets_x_r], ai G h_sheets_x_r rn rw, oc h_sheets_y 8 [.ref h_sheets_y_r], ah G h_sheets_y_r rn2 rw2] sz) := by
  refine va_MetW (hh := [(18, 44, 47, 354), (18, 44, 52, 360), (18, 44, 57, 362)]) (cc := cX0_copy) (maxL := 7) (ret := (some .int)) (by decide) rfl ?_
  intro p e s m args below meth c s₁ B hml hv
  obtain ⟨rfl, hsz, hP, hK, hD0, hst⟩ := hv
  have hx := B.exec
  have hb := B.bytes
  have hr := B.returns
  have hts := atoms_spec (ws := (wsW_ yX0_copy cX0_copy 7 (some .int) [(18, 44, 47, 354), (18, 44, 52, 360), (18, 44, 57, 362)])) B.pre
  have hts : ∀ w ∈ lw_all, w.before _ s = true := fun w h => hts w (List.mem_cons_of_mem _ h)
  have hown : s.vm.findClass RX0 = some m.cls := findClass_of_methodNamed B.named
  have hlocks := B.notSynchronized
  have hhd : c.exceptionTable.toList = [⟨18, 44, 47, 354⟩, ⟨18, 44, 52, 360⟩, ⟨18, 44, 57, 362⟩] := x_hand B (atoms_spec (ws := (wsW_ yX0_copy cX0_copy 7 (some .int) [(18, 44, 47, 354), (18, 44, 52, 360), (18, 44, 57, 362)])) B.pre _ List.mem_cons_self)
  subst hsz
  have hD := hD0.self (sz := s.heap.size)
  generalize hAe : va_A [oc h 0 [.ref h_kinds, .ref h_now, .ref h_fault, .ref h_tape, .int taped, .int reads, .ref h_got, .ref h_failing, .ref h_past, .int undoMany, .ref h_aside, .ref h_best, .ref h_tried, .ref h_kept, .ref h_keptPast, .int keptMany, .int isKept, .ref h_sheets], arf G h_sheets 7 4 shf, oc h_sheets_x 8 [.ref h_sheets_x_r], ai G h_sheets_x_r rn rw, oc h_sheets_y 8 [.ref h_sheets_y_r], ah G h_sheets_y_r rn2 rw2] s.heap.size = A at hD ⊢
  have hA : ∀ q : Nat, s.heap.size ≤ q → A q := fun q h => by rw [← hAe]; exact Or.inr h
  have hS : va_S A s.heap s.heap [] := va_S.rf
  have hX : XCx l aS s A := ⟨hfl, hst, fun q cell hq hc => va_A.ns hP (by rw [hAe]; exact hq) hc⟩
  have C : Cx p s m meth c cX0_copy 7 (some .int) RX0 ([.ref h, .int p1, .int p2, .int p3, .int p4, .int p5] : List Value).toArray G A := ⟨hx, hb, hr, hlocks, hml, hown, hts, hK, hA⟩
  have hl := lv_entry ([.ref h, .int p1, .int p2, .int p3, .int p4, .int p5]) (n := 7) (Nat.le_of_ble_eq_true rfl)
  rw [lg_entry_eq]
  generalize (lg_sl ([.ref h, .int p1, .int p2, .int p3, .int p4, .int p5]) ++ List.replicate (7 - (lg_sl ([.ref h, .int p1, .int p2, .int p3, .int p4, .int p5])).length) Slot.unset).toArray = ls at hl ⊢
  have hl : lv_has ls 7 [(0, .ref h), (1, .int p1), (2, .int p2), (3, .int p3), (4, .int p4), (5, .int p5)] := hl
  unfold wp_X0_copy_IS at hw
  refine lv_iload_n hx hb dX0_copy_0 rfl (lv_at hl 1 rfl) ?_
  refine lv_iconst (v := (0 : Int32)) hx hb dX0_copy_1 (by decide) ?_
  have hPc := hP.sub (ws' := []) [] rfl
  have hDc := hD.sub (ws' := []) [] (by decide) rfl
  have hFc := va_free (wc := []) hD hS hA [] rfl
  refine va_calli (va_runS (As := [.int p1, .int (0 : Int32)]) (rest := []) ⟨hx, hb, hml, hown, hts⟩ (mt_X0_isSheet l G  s.heap.size  p1 (0 : Int32) _ hw) (va_cwS 2 hts (lw_S q648 q649 q54 q650) rfl rfl rfl (by decide +kernel) ⟨Nat.le_of_ble_eq_true rfl, Nat.le_of_ble_eq_true rfl⟩) ⟨fun a U g mk q => by obtain ⟨q0, q1, qP, qK, qD⟩ := q; exact ⟨q0, q1, qP, qK.call, qD⟩, fun U hU hW => ⟨rfl, by rw [hU], by rw [hU]; exact hPc, hK.warm hW, hDc.weaken (fun _ _ _ _ => trivial)⟩⟩ rfl rfl hl.1 rfl (lv_room (Nat.le_of_ble_eq_true rfl)) dX0_copy_2 ⟨Nat.le_of_ble_eq_true rfl, Nat.le_of_ble_eq_true rfl⟩) hS (fun q _ h => hFc q h) hFc (fun r_1 _ t H1 locs ht hvm hw hB hz1 hk1 hS => ?_)
  obtain ⟨hP1, hD1⟩ := hB
  rw [ht] at hP1
  obtain ⟨hP, hD⟩ := va_join (wr := [oc h 0 [.ref h_kinds, .ref h_now, .ref h_fault, .ref h_tape, .int taped, .int reads, .ref h_got, .ref h_failing, .ref h_past, .int undoMany, .ref h_aside, .ref h_best, .ref h_tried, .ref h_kept, .ref h_keptPast, .int keptMany, .int isKept, .ref h_sheets], arf G h_sheets 7 4 shf, oc h_sheets_x 8 [.ref h_sheets_x_r], ai G h_sheets_x_r rn rw, oc h_sheets_y 8 [.ref h_sheets_y_r], ah G h_sheets_y_r rn2 rw2]) (w1 := []) hP hD [] [0, 1, 2, 3, 4, 5] rfl rfl (by decide) (by decide) hk1 hFc hP1 hD1
  clear hPc hDc hFc hP1 hD1 hz1 hk1 hvm
  generalize H1 = H at hP hS ⊢
  have hP : va_P G.1 gCl [oc h 0 [.ref h_kinds, .ref h_now, .ref h_fault, .ref h_tape, .int taped, .int reads, .ref h_got, .ref h_failing, .ref h_past, .int undoMany, .ref h_aside, .ref h_best, .ref h_tried, .ref h_kept, .ref h_keptPast, .int keptMany, .int isKept, .ref h_sheets], arf G h_sheets 7 4 shf, oc h_sheets_x 8 [.ref h_sheets_x_r], ai G h_sheets_x_r rn rw, oc h_sheets_y 8 [.ref h_sheets_y_r], ah G h_sheets_y_r rn2 rw2] H := hP
  have hD : va_D A [oc h 0 [.ref h_kinds, .ref h_now, .ref h_fault, .ref h_tape, .int taped, .int reads, .ref h_got, .ref h_failing, .ref h_past, .int undoMany, .ref h_aside, .ref h_best, .ref h_tried, .ref h_kept, .ref h_keptPast, .int keptMany, .int isKept, .ref h_sheets], arf G h_sheets 7 4 shf, oc h_sheets_x 8 [.ref h_sheets_x_r], ai G h_sheets_x_r rn rw, oc h_sheets_y 8 [.ref h_sheets_y_r], ah G h_sheets_y_r rn2 rw2] := hD
  refine lv_if_eq (tgt := 16) hx hb dX0_copy_5 (by decide) (fun c_2 => ?_) (fun c_2 => ?_)
  · replace hw := hw.1 c_2
    refine lv_iconst (v := (-1 : Int32)) hx hb dX0_copy_16 (by decide) ?_
    have hP9 := hP
    have hD9 := hD
    exact w_widen (k := 3) (n := 1010) (by first | exact Nat.le_of_ble_eq_true rfl | omega) (by first | exact Nat.le_of_ble_eq_true rfl | omega) (W.iret (v := (-1 : Int32)) hx hb hr (fun t ht hW => ⟨⟨(-1 : Int32), (), rfl, hw, by rw [ht]; exact hP9, hD9⟩, hS.F ht⟩) hS.2.2 dX0_copy_17)
  · replace hw := hw.2 c_2
    refine lv_iload_n hx hb dX0_copy_8 rfl (lv_at hl 3 rfl) ?_
    refine lv_iconst (v := (0 : Int32)) hx hb dX0_copy_9 (by decide) ?_
    have hPc := hP.sub (ws' := []) [] rfl
    have hDc := hD.sub (ws' := []) [] (by decide) rfl
    have hFc := va_free (wc := []) hD hS hA [] rfl
    refine va_calli (va_runS (As := [.int p3, .int (0 : Int32)]) (rest := []) ⟨hx, hb, hml, hown, hts⟩ (mt_X0_isSheet l G  H.size  p3 (0 : Int32) _ hw) (va_cwS 2 hts (lw_S q648 q649 q54 q650) rfl rfl rfl (by decide +kernel) ⟨Nat.le_of_ble_eq_true rfl, Nat.le_of_ble_eq_true rfl⟩) ⟨fun a U g mk q => by obtain ⟨q0, q1, qP, qK, qD⟩ := q; exact ⟨q0, q1, qP, qK.call, qD⟩, fun U hU hW => ⟨rfl, by rw [hU], by rw [hU]; exact hPc, hK.warm hW, hDc.weaken (fun _ _ _ _ => trivial)⟩⟩ rfl rfl hl.1 rfl (lv_room (Nat.le_of_ble_eq_true rfl)) dX0_copy_10 ⟨Nat.le_of_ble_eq_true rfl, Nat.le_of_ble_eq_true rfl⟩) hS (fun q _ h => hFc q h) hFc (fun r_3 _ t H1 locs ht hvm hw hB hz1 hk1 hS => ?_)
    obtain ⟨hP1, hD1⟩ := hB
    rw [ht] at hP1
    obtain ⟨hP, hD⟩ := va_join (wr := [oc h 0 [.ref h_kinds, .ref h_now, .ref h_fault, .ref h_tape, .int taped, .int reads, .ref h_got, .ref h_failing, .ref h_past, .int undoMany, .ref h_aside, .ref h_best, .ref h_tried, .ref h_kept, .ref h_keptPast, .int keptMany, .int isKept, .ref h_sheets], arf G h_sheets 7 4 shf, oc h_sheets_x 8 [.ref h_sheets_x_r], ai G h_sheets_x_r rn rw, oc h_sheets_y 8 [.ref h_sheets_y_r], ah G h_sheets_y_r rn2 rw2]) (w1 := []) hP hD [] [0, 1, 2, 3, 4, 5] rfl rfl (by decide) (by decide) hk1 hFc hP1 hD1
    clear hPc hDc hFc hP1 hD1 hz1 hk1 hvm
    generalize H1 = H at hP hS ⊢
    have hP : va_P G.1 gCl [oc h 0 [.ref h_kinds, .ref h_now, .ref h_fault, .ref h_tape, .int taped, .int reads, .ref h_got, .ref h_failing, .ref h_past, .int undoMany, .ref h_aside, .ref h_best, .ref h_tried, .ref h_kept, .ref h_keptPast, .int keptMany, .int isKept, .ref h_sheets], arf G h_sheets 7 4 shf, oc h_sheets_x 8 [.ref h_sheets_x_r], ai G h_sheets_x_r rn rw, oc h_sheets_y 8 [.ref h_sheets_y_r], ah G h_sheets_y_r rn2 rw2] H := hP
    have hD : va_D A [oc h 0 [.ref h_kinds, .ref h_now, .ref h_fault, .ref h_tape, .int taped, .int reads, .ref h_got, .ref h_failing, .ref h_past, .int undoMany, .ref h_aside, .ref h_best, .ref h_tried, .ref h_kept, .ref h_keptPast, .int keptMany, .int isKept, .ref h_sheets], arf G h_sheets 7 4 shf, oc h_sheets_x 8 [.ref h_sheets_x_r], ai G h_sheets_x_r rn rw, oc h_sheets_y 8 [.ref h_sheets_y_r], ah G h_sheets_y_r rn2 rw2] := hD
    refine lv_if_ne (tgt := 18) hx hb dX0_copy_13 (by decide) (fun c_4 => ?_) (fun c_4 => ?_)
    · replace hw := hw.1 c_4
      refine lv_aload_n hx hb dX0_copy_18 rfl (lv_at hl 0 rfl) ?_
      refine va_get (D := G.1) (ci := 0) (v := .ref h_sheets) (C := RX0) (T := TX0) (N := 18) hx hb hts in_X0 hown hK.1 hP 0 rfl rfl 17 (by decide) (hts _ q273) (fun _ h9 => h9) rfl dX0_copy_19 ?_
      refine lv_iload_n hx hb dX0_copy_22 rfl (lv_at hl 1 rfl) ?_
      obtain ⟨i_5, hw⟩ := hw
      refine z_aaldS hx hb hK.1 hP 1 7 rfl rfl i_5 dX0_copy_23 hsh ?_
      refine va_getN (D := G.1) (ci := 8) (v := .ref h_sheets_x_r) (C := RX8) (T := TX8) (N := 1) hx hb hts in_X8 hown hK.1 hP 2 rfl rfl 0 (by decide) (hK.n q251 rfl) (fun _ h9 => h9) rfl dX0_copy_24 ?_
      refine lv_iload_n hx hb dX0_copy_27 rfl (lv_at hl 2 rfl) ?_
      refine lv_aload_n hx hb dX0_copy_28 rfl (lv_at hl 0 rfl) ?_
      refine va_get (D := G.1) (ci := 0) (v := .ref h_sheets) (C := RX0) (T := TX0) (N := 18) hx hb hts in_X0 hown hK.1 hP 0 rfl rfl 17 (by decide) (hts _ q273) (fun _ h9 => h9) rfl dX0_copy_29 ?_
      refine lv_iload_n hx hb dX0_copy_32 rfl (lv_at hl 3 rfl) ?_
      obtain ⟨i_6, hw⟩ := hw
      refine z_aaldS hx hb hK.1 hP 1 7 rfl rfl i_6 dX0_copy_33 hsh2 ?_
      refine va_getN (D := G.1) (ci := 8) (v := .ref h_sheets_y_r) (C := RX8) (T := TX8) (N := 1) hx hb hts in_X8 hown hK.1 hP 4 rfl rfl 0 (by decide) (hK.n q251 rfl) (fun _ h9 => h9) rfl dX0_copy_34 ?_
      refine lv_iload hx hb dX0_copy_37 (lv_at hl 4 rfl) ?_
      refine lv_iload hx hb dX0_copy_39 (lv_at hl 5 rfl) ?_
      refine w_cpType (rest := []) ⟨hx, hb, hml.trans hl.1.symm, hts, hK, hX, hS, hP, hown, hts _ q512, hts _ q440, hts _ q439, hts _ q68, dX0_copy_41, Nat.le_of_ble_eq_true rfl, Nat.le_of_ble_eq_true rfl, Nat.le_of_ble_eq_true rfl, Nat.le_of_ble_eq_true rfl, Nat.le_of_ble_eq_true rfl⟩ 3 5 0 4 rfl rfl rfl rfl (by decide) (fun x_7 H hxo hP hS hz hk => ?_)
      obtain ⟨ce, hce, hcv, hcc⟩ := hxo
      refine wx_catch (cell := ce) hce (by rw [hcv]; rfl) [⟨18, 44, 47, 354⟩] ⟨18, 44, 52, 360⟩ [⟨18, 44, 57, 362⟩] hhd (fun pl hpl z hz => (List.forall_mem_cons.mpr ⟨x_pass (z := ⟨18, 44, 47, 354⟩) (by decide) (by decide) hown (hts _ q734) (hK.2.2 ("java/lang/ArrayStoreException", "java/lang/NullPointerException") (by decide +kernel)) hcc pl hpl, fun _ h9 => absurd h9 List.not_mem_nil⟩) z hz) (by decide) (by decide) hown (hts _ q796) (cT := ce.cls) hcc (vm_refl (args := #[]) (hK.n q808 rfl) hcc) ?_
      refine lv_astore (lv' := [(6, .ref x_7), (0, .ref h), (1, .int p1), (2, .int p2), (3, .int p3), (4, .int p4), (5, .int p5)]) hx hb dX0_copy_52 hl (by decide) rfl (fun ls hl => ?_)
      refine lv_bipush (v := (-12 : Int32)) hx hb dX0_copy_54 (by decide) ?_
      have hP9 := hP
      have hD9 := hD
      exact w_widen (k := 3) (n := 1010) (by first | exact Nat.le_of_ble_eq_true rfl | omega) (by first | exact Nat.le_of_ble_eq_true rfl | omega) (W.iret (v := (-12 : Int32)) hx hb hr (fun t ht hW => ⟨⟨(-12 : Int32), (), rfl, hw, by rw [ht]; exact hP9, hD9⟩, hS.F ht⟩) hS.2.2 dX0_copy_56)
    · replace hw := hw.2 c_4
      refine lv_iconst (v := (-1 : Int32)) hx hb dX0_copy_16 (by decide) ?_
      have hP9 := hP
      have hD9 := hD
      exact w_widen (k := 3) (n := 1010) (by first | exact Nat.le_of_ble_eq_true rfl | omega) (by first | exact Nat.le_of_ble_eq_true rfl | omega) (W.iret (v := (-1 : Int32)) hx hb hr (fun t ht hW => ⟨⟨(-1 : Int32), (), rfl, hw, by rw [ht]; exact hP9, hD9⟩, hS.F ht⟩) hS.2.2 dX0_copy_17)
/-! BattleBench.copy(IIIII)I -/
def wp_X0_copy_II (rn : Nat) (rw : Nat → Int32) (rn2 : Nat) (rw2 : Nat → Int32) (p1 : Int32) (p2 : Int32) (p3 : Int32) (p4 : Int32) (p5 : Int32) (Q : Int32 → ((Nat → Int32)) → Prop) : Prop :=
  wp_X0_isSheet  p1 (0 : Int32) (fun r_1 => (((r_1 = 0) → Q (-1 : Int32) rw2) ∧ (¬ (r_1 = 0) → wp_X0_isSheet  p3 (0 : Int32) (fun r_3 => ((¬ (r_3 = 0) → (vp_in p1 4 ∧ (vp_in p3 4 ∧ ((cpOk p2 p4 p5 rn rn2 → ∀ f_9 : Nat → Int32, f_9 = va_cpy rw rw2 p2.toNatClampNeg p4.toNatClampNeg p5.toNatClampNeg → Q p5 f_9) ∧ (¬ cpOk p2 p4 p5 rn rn2 → (rn < 2147483648 ∧ rn2 < 2147483648 ∧ Q (-13 : Int32) rw2)))))) ∧ ((r_3 = 0) → Q (-1 : Int32) rw2))))))
set_option maxHeartbeats 4000000 in
theorem mt_X0_copy_II (l : Launch) (G : GT) (aS : Nat) (hfl : l.flags = pinnedFlags ++ [noTraceFlag]) (h h_kinds h_now h_fault h_tape h_got h_failing h_past h_aside h_best h_tried h_kept h_keptPast h_sheets h_sheets_x h_sheets_x_r h_sheets_y h_sheets_y_r : Nat) (shf : Nat → Option Nat) (sz : Nat) (taped : Int32) (reads : Int32) (undoMany : Int32) (keptMany : Int32) (isKept : Int32) (rn : Nat) (rw : Nat → Int32) (rn2 : Nat) (rw2 : Nat → Int32) (p1 : Int32) (p2 : Int32) (p3 : Int32) (p4 : Int32) (p5 : Int32)(hsh : shf p1.toNatClampNeg = some h_sheets_x) (hsh2 : shf p3.toNatClampNeg = some h_sheets_y) (Q : Int32 → ((Nat → Int32)) → Prop) (hw : wp_X0_copy_II rn rw rn2 rw2 p1 p2 p3 p4 p5 Q) : Met l yX0_copy (wsW_ yX0_copy cX0_copy 7 (some .int) [(18, 44, 47, 354), (18, 44, 52, 360), (18, 44, 57, 362)]) ({ frames := 9, cells := 3, slots := 1010, locals := 10248 } : Room) (va_Pc [.ref h, .int p1, .int p2, .int p3, .int p4, .int p5] (fun U => U.heap.size = sz ∧ va_P G.1 gCl [oc h 0 [.ref h_kinds, .ref h_now, .ref h_fault, .ref h_tape, .int taped, .int reads, .ref h_got, .ref h_failing, .ref h_past, .int undoMany, .ref h_aside, .ref h_best, .ref h_tried, .ref h_kept, .ref h_keptPast, .int keptMany, .int isKept, .ref h_sheets], arf G h_sheets 7 4 shf, oc h_sheets_x 8 [.ref h_sheets_x_r], ai G h_sheets_x_r rn rw, oc h_sheets_y 8 [.ref h_sheets_y_r], ai G h_sheets_y_r rn2 rw2] U.heap ∧ gK G U ∧ va_D (fun _ => True) [oc h 0 [.ref h_kinds, .ref h_now, .ref h_fault, .ref h_tape, .int taped, .int reads, .ref h_got, .ref h_failing, .ref h_past, .int undoMany, .ref h_aside, .ref h_best, .ref h_tried, .ref h_kept, .ref h_keptPast, .int keptMany, .int isKept, .ref h_sheets], arf G h_sheets 7 4 shf, oc h_sheets_x 8 [.ref h_sheets_x_r], ai G h_sheets_x_r rn rw, oc h_sheets_y 8 [.ref h_sheets_y_r], ai G h_sheets_y_r rn2 rw2] ∧ stS aS U)) ((fun A => (va_Qi (fun (r : Int32) (u : (Nat → Int32)) => Q r u) (fun u t => va_P G.1 gCl [oc h 0 [.ref h_kinds, .ref h_now, .ref h_fault, .ref h_tape, .int taped, .int reads, .ref h_got, .ref h_failing, .ref h_past, .int undoMany, .ref h_aside, .ref h_best, .ref h_tried, .ref h_kept, .ref h_keptPast, .int keptMany, .int isKept, .ref h_sheets], arf G h_sheets 7 4 shf, oc h_sheets_x 8 [.ref h_sheets_x_r], ai G h_sheets_x_r rn rw, oc h_sheets_y 8 [.ref h_sheets_y_r], ai G h_sheets_y_r rn2 u] t.heap ∧ va_D A [oc h 0 [.ref h_kinds, .ref h_now, .ref h_fault, .ref h_tape, .int taped, .int reads, .ref h_got, .ref h_failing, .ref h_past, .int undoMany, .ref h_aside, .ref h_best, .ref h_tried, .ref h_kept, .ref h_keptPast, .int keptMany, .int isKept, .ref h_sheets], arf G h_sheets 7 4 shf, oc h_sheets_x 8 [.ref h_sheets_x_r], ai G h_sheets_x_r rn rw, oc h_sheets_y 8 [.ref h_sheets_y_r], ai G h_sheets_y_r rn2 u]) A)) (va_A [oc h 0 [.ref h_kinds, .ref h_now, .ref h_fault, .ref h_tape, .int taped, .int reads, .ref h_got, .ref h_failing, .ref h_past, .int undoMany, .ref h_aside, .ref h_best, .ref h_tried, .ref h_kept, .ref h_keptPast, .int keptMany, .int isKept, .ref h_sheets], arf G h_sheets 7 4 shf, oc h_sheets_x 8 [.ref h_sheets_x_r], ai G h_sheets_x_r rn rw, oc h_sheets_y 8 [.ref h_sheets_y_r], ai G h_sheets_y_r rn2 rw2] sz)) 3 1010 (va_A [oc h 0 [.ref h_kinds, .ref h_now, .ref h_fault, .ref h_tape, .int taped, .int reads, .ref h_got, .ref h_failing, .ref h_past, .int undoMany, .ref h_aside, .ref h_best, .ref h_tried, .ref h_kept, .ref h_keptPast, .int keptMany, .int isKept, .ref h_sheets], arf G h_sheets 7 4 shf, oc h_sheets_x 8 [.ref h_sheets_x_r], ai G h_sheets_x_r rn rw, oc h_sheets_y 8 [.ref h_sheets_y_r], ai G h_sheets_y_r rn2 rw2] sz) := by
  refine va_MetW (hh := [(18, 44, 47, 354), (18, 44, 52, 360), (18, 44, 57, 362)]) (cc := cX0_copy) (maxL := 7) (ret := (some .int)) (by decide) rfl ?_
  intro p e s m args below meth c s₁ B hml hv
  obtain ⟨rfl, hsz, hP, hK, hD0, hst⟩ := hv
  have hx := B.exec
  have hb := B.bytes
  have hr := B.returns
  have hts := atoms_spec (ws := (wsW_ yX0_copy cX0_copy 7 (some .int) [(18, 44, 47, 354), (18, 44, 52, 360), (18, 44, 57, 362)])) B.pre
  have hts : ∀ w ∈ lw_all, w.before _ s = true := fun w h => hts w (List.mem_cons_of_mem _ h)
  have hown : s.vm.findClass RX0 = some m.cls := findClass_of_methodNamed B.named
  have hlocks := B.notSynchronized
  have hhd : c.exceptionTable.toList = [⟨18, 44, 47, 354⟩, ⟨18, 44, 52, 360⟩, ⟨18, 44, 57, 362⟩] := x_hand B (atoms_spec (ws := (wsW_ yX0_copy cX0_copy 7 (some .int) [(18, 44, 47, 354), (18, 44, 52, 360), (18, 44, 57, 362)])) B.pre _ List.mem_cons_self)
  subst hsz
  have hD := hD0.self (sz := s.heap.size)
  generalize hAe : va_A [oc h 0 [.ref h_kinds, .ref h_now, .ref h_fault, .ref h_tape, .int taped, .int reads, .ref h_got, .ref h_failing, .ref h_past, .int undoMany, .ref h_aside, .ref h_best, .ref h_tried, .ref h_kept, .ref h_keptPast, .int keptMany, .int isKept, .ref h_sheets], arf G h_sheets 7 4 shf, oc h_sheets_x 8 [.ref h_sheets_x_r], ai G h_sheets_x_r rn rw, oc h_sheets_y 8 [.ref h_sheets_y_r], ai G h_sheets_y_r rn2 rw2] s.heap.size = A at hD ⊢
  have hA : ∀ q : Nat, s.heap.size ≤ q → A q := fun q h => by rw [← hAe]; exact Or.inr h
  have hS : va_S A s.heap s.heap [] := va_S.rf
  have hX : XCx l aS s A := ⟨hfl, hst, fun q cell hq hc => va_A.ns hP (by rw [hAe]; exact hq) hc⟩
  have C : Cx p s m meth c cX0_copy 7 (some .int) RX0 ([.ref h, .int p1, .int p2, .int p3, .int p4, .int p5] : List Value).toArray G A := ⟨hx, hb, hr, hlocks, hml, hown, hts, hK, hA⟩
  have hl := lv_entry ([.ref h, .int p1, .int p2, .int p3, .int p4, .int p5]) (n := 7) (Nat.le_of_ble_eq_true rfl)
  rw [lg_entry_eq]
  generalize (lg_sl ([.ref h, .int p1, .int p2, .int p3, .int p4, .int p5]) ++ List.replicate (7 - (lg_sl ([.ref h, .int p1, .int p2, .int p3, .int p4, .int p5])).length) Slot.unset).toArray = ls at hl ⊢
  have hl : lv_has ls 7 [(0, .ref h), (1, .int p1), (2, .int p2), (3, .int p3), (4, .int p4), (5, .int p5)] := hl
  unfold wp_X0_copy_II at hw
  refine lv_iload_n hx hb dX0_copy_0 rfl (lv_at hl 1 rfl) ?_
  refine lv_iconst (v := (0 : Int32)) hx hb dX0_copy_1 (by decide) ?_
  have hPc := hP.sub (ws' := []) [] rfl
  have hDc := hD.sub (ws' := []) [] (by decide) rfl
  have hFc := va_free (wc := []) hD hS hA [] rfl
  refine va_calli (va_runS (As := [.int p1, .int (0 : Int32)]) (rest := []) ⟨hx, hb, hml, hown, hts⟩ (mt_X0_isSheet l G  s.heap.size  p1 (0 : Int32) _ hw) (va_cwS 2 hts (lw_S q648 q649 q54 q650) rfl rfl rfl (by decide +kernel) ⟨Nat.le_of_ble_eq_true rfl, Nat.le_of_ble_eq_true rfl⟩) ⟨fun a U g mk q => by obtain ⟨q0, q1, qP, qK, qD⟩ := q; exact ⟨q0, q1, qP, qK.call, qD⟩, fun U hU hW => ⟨rfl, by rw [hU], by rw [hU]; exact hPc, hK.warm hW, hDc.weaken (fun _ _ _ _ => trivial)⟩⟩ rfl rfl hl.1 rfl (lv_room (Nat.le_of_ble_eq_true rfl)) dX0_copy_2 ⟨Nat.le_of_ble_eq_true rfl, Nat.le_of_ble_eq_true rfl⟩) hS (fun q _ h => hFc q h) hFc (fun r_1 _ t H1 locs ht hvm hw hB hz1 hk1 hS => ?_)
  obtain ⟨hP1, hD1⟩ := hB
  rw [ht] at hP1
  obtain ⟨hP, hD⟩ := va_join (wr := [oc h 0 [.ref h_kinds, .ref h_now, .ref h_fault, .ref h_tape, .int taped, .int reads, .ref h_got, .ref h_failing, .ref h_past, .int undoMany, .ref h_aside, .ref h_best, .ref h_tried, .ref h_kept, .ref h_keptPast, .int keptMany, .int isKept, .ref h_sheets], arf G h_sheets 7 4 shf, oc h_sheets_x 8 [.ref h_sheets_x_r], ai G h_sheets_x_r rn rw, oc h_sheets_y 8 [.ref h_sheets_y_r], ai G h_sheets_y_r rn2 rw2]) (w1 := []) hP hD [] [0, 1, 2, 3, 4, 5] rfl rfl (by decide) (by decide) hk1 hFc hP1 hD1
  clear hPc hDc hFc hP1 hD1 hz1 hk1 hvm
  generalize H1 = H at hP hS ⊢
  have hP : va_P G.1 gCl [oc h 0 [.ref h_kinds, .ref h_now, .ref h_fault, .ref h_tape, .int taped, .int reads, .ref h_got, .ref h_failing, .ref h_past, .int undoMany, .ref h_aside, .ref h_best, .ref h_tried, .ref h_kept, .ref h_keptPast, .int keptMany, .int isKept, .ref h_sheets], arf G h_sheets 7 4 shf, oc h_sheets_x 8 [.ref h_sheets_x_r], ai G h_sheets_x_r rn rw, oc h_sheets_y 8 [.ref h_sheets_y_r], ai G h_sheets_y_r rn2 rw2] H := hP
  have hD : va_D A [oc h 0 [.ref h_kinds, .ref h_now, .ref h_fault, .ref h_tape, .int taped, .int reads, .ref h_got, .ref h_failing, .ref h_past, .int undoMany, .ref h_aside, .ref h_best, .ref h_tried, .ref h_kept, .ref h_keptPast, .int keptMany, .int isKept, .ref h_sheets], arf G h_sheets 7 4 shf, oc h_sheets_x 8 [.ref h_sheets_x_r], ai G h_sheets_x_r rn rw, oc h_sheets_y 8 [.ref h_sheets_y_r], ai G h_sheets_y_r rn2 rw2] := hD
  refine lv_if_eq (tgt := 16) hx hb dX0_copy_5 (by decide) (fun c_2 => ?_) (fun c_2 => ?_)
  · replace hw := hw.1 c_2
    refine lv_iconst (v := (-1 : Int32)) hx hb dX0_copy_16 (by decide) ?_
    have hP9 := hP
    have hD9 := hD
    exact w_widen (k := 3) (n := 1010) (by first | exact Nat.le_of_ble_eq_true rfl | omega) (by first | exact Nat.le_of_ble_eq_true rfl | omega) (W.iret (v := (-1 : Int32)) hx hb hr (fun t ht hW => ⟨⟨(-1 : Int32), rw2, rfl, hw, by rw [ht]; exact hP9, hD9⟩, hS.F ht⟩) hS.2.2 dX0_copy_17)
  · replace hw := hw.2 c_2
    refine lv_iload_n hx hb dX0_copy_8 rfl (lv_at hl 3 rfl) ?_
    refine lv_iconst (v := (0 : Int32)) hx hb dX0_copy_9 (by decide) ?_
    have hPc := hP.sub (ws' := []) [] rfl
    have hDc := hD.sub (ws' := []) [] (by decide) rfl
    have hFc := va_free (wc := []) hD hS hA [] rfl
    refine va_calli (va_runS (As := [.int p3, .int (0 : Int32)]) (rest := []) ⟨hx, hb, hml, hown, hts⟩ (mt_X0_isSheet l G  H.size  p3 (0 : Int32) _ hw) (va_cwS 2 hts (lw_S q648 q649 q54 q650) rfl rfl rfl (by decide +kernel) ⟨Nat.le_of_ble_eq_true rfl, Nat.le_of_ble_eq_true rfl⟩) ⟨fun a U g mk q => by obtain ⟨q0, q1, qP, qK, qD⟩ := q; exact ⟨q0, q1, qP, qK.call, qD⟩, fun U hU hW => ⟨rfl, by rw [hU], by rw [hU]; exact hPc, hK.warm hW, hDc.weaken (fun _ _ _ _ => trivial)⟩⟩ rfl rfl hl.1 rfl (lv_room (Nat.le_of_ble_eq_true rfl)) dX0_copy_10 ⟨Nat.le_of_ble_eq_true rfl, Nat.le_of_ble_eq_true rfl⟩) hS (fun q _ h => hFc q h) hFc (fun r_3 _ t H1 locs ht hvm hw hB hz1 hk1 hS => ?_)
    obtain ⟨hP1, hD1⟩ := hB
    rw [ht] at hP1
    obtain ⟨hP, hD⟩ := va_join (wr := [oc h 0 [.ref h_kinds, .ref h_now, .ref h_fault, .ref h_tape, .int taped, .int reads, .ref h_got, .ref h_failing, .ref h_past, .int undoMany, .ref h_aside, .ref h_best, .ref h_tried, .ref h_kept, .ref h_keptPast, .int keptMany, .int isKept, .ref h_sheets], arf G h_sheets 7 4 shf, oc h_sheets_x 8 [.ref h_sheets_x_r], ai G h_sheets_x_r rn rw, oc h_sheets_y 8 [.ref h_sheets_y_r], ai G h_sheets_y_r rn2 rw2]) (w1 := []) hP hD [] [0, 1, 2, 3, 4, 5] rfl rfl (by decide) (by decide) hk1 hFc hP1 hD1
    clear hPc hDc hFc hP1 hD1 hz1 hk1 hvm
    generalize H1 = H at hP hS ⊢
    have hP : va_P G.1 gCl [oc h 0 [.ref h_kinds, .ref h_now, .ref h_fault, .ref h_tape, .int taped, .int reads, .ref h_got, .ref h_failing, .ref h_past, .int undoMany, .ref h_aside, .ref h_best, .ref h_tried, .ref h_kept, .ref h_keptPast, .int keptMany, .int isKept, .ref h_sheets], arf G h_sheets 7 4 shf, oc h_sheets_x 8 [.ref h_sheets_x_r], ai G h_sheets_x_r rn rw, oc h_sheets_y 8 [.ref h_sheets_y_r], ai G h_sheets_y_r rn2 rw2] H := hP
    have hD : va_D A [oc h 0 [.ref h_kinds, .ref h_now, .ref h_fault, .ref h_tape, .int taped, .int reads, .ref h_got, .ref h_failing, .ref h_past, .int undoMany, .ref h_aside, .ref h_best, .ref h_tried, .ref h_kept, .ref h_keptPast, .int keptMany, .int isKept, .ref h_sheets], arf G h_sheets 7 4 shf, oc h_sheets_x 8 [.ref h_sheets_x_r], ai G h_sheets_x_r rn rw, oc h_sheets_y 8 [.ref h_sheets_y_r], ai G h_sheets_y_r rn2 rw2] := hD
    refine lv_if_ne (tgt := 18) hx hb dX0_copy_13 (by decide) (fun c_4 => ?_) (fun c_4 => ?_)
    · replace hw := hw.1 c_4
      refine lv_aload_n hx hb dX0_copy_18 rfl (lv_at hl 0 rfl) ?_
      refine va_get (D := G.1) (ci := 0) (v := .ref h_sheets) (C := RX0) (T := TX0) (N := 18) hx hb hts in_X0 hown hK.1 hP 0 rfl rfl 17 (by decide) (hts _ q273) (fun _ h9 => h9) rfl dX0_copy_19 ?_
      refine lv_iload_n hx hb dX0_copy_22 rfl (lv_at hl 1 rfl) ?_
      obtain ⟨i_5, hw⟩ := hw
      refine z_aaldS hx hb hK.1 hP 1 7 rfl rfl i_5 dX0_copy_23 hsh ?_
      refine va_getN (D := G.1) (ci := 8) (v := .ref h_sheets_x_r) (C := RX8) (T := TX8) (N := 1) hx hb hts in_X8 hown hK.1 hP 2 rfl rfl 0 (by decide) (hK.n q251 rfl) (fun _ h9 => h9) rfl dX0_copy_24 ?_
      refine lv_iload_n hx hb dX0_copy_27 rfl (lv_at hl 2 rfl) ?_
      refine lv_aload_n hx hb dX0_copy_28 rfl (lv_at hl 0 rfl) ?_
      refine va_get (D := G.1) (ci := 0) (v := .ref h_sheets) (C := RX0) (T := TX0) (N := 18) hx hb hts in_X0 hown hK.1 hP 0 rfl rfl 17 (by decide) (hts _ q273) (fun _ h9 => h9) rfl dX0_copy_29 ?_
      refine lv_iload_n hx hb dX0_copy_32 rfl (lv_at hl 3 rfl) ?_
      obtain ⟨i_6, hw⟩ := hw
      refine z_aaldS hx hb hK.1 hP 1 7 rfl rfl i_6 dX0_copy_33 hsh2 ?_
      refine va_getN (D := G.1) (ci := 8) (v := .ref h_sheets_y_r) (C := RX8) (T := TX8) (N := 1) hx hb hts in_X8 hown hK.1 hP 4 rfl rfl 0 (by decide) (hK.n q251 rfl) (fun _ h9 => h9) rfl dX0_copy_34 ?_
      refine lv_iload hx hb dX0_copy_37 (lv_at hl 4 rfl) ?_
      refine lv_iload hx hb dX0_copy_39 (lv_at hl 5 rfl) ?_
      by_cases c_8 : cpOk p2 p4 p5 rn rn2
      · replace hw := hw.1 c_8
        refine z_cpI hx hb (hml.trans hl.1.symm) hown (hts _ q512) (hts _ q440) (hts _ q439) (hts _ q68) hK.1 hP hD hS 3 5 0 rfl rfl rfl rfl rfl c_8 (fun i _ => rfl) (Nat.le_of_ble_eq_true rfl) (Nat.le_of_ble_eq_true rfl) dX0_copy_41 (fun f_9 ef_9 H locs hP hD hS => ?_)
        replace hw := hw f_9 ef_9
        have hP : va_P G.1 gCl [oc h 0 [.ref h_kinds, .ref h_now, .ref h_fault, .ref h_tape, .int taped, .int reads, .ref h_got, .ref h_failing, .ref h_past, .int undoMany, .ref h_aside, .ref h_best, .ref h_tried, .ref h_kept, .ref h_keptPast, .int keptMany, .int isKept, .ref h_sheets], arf G h_sheets 7 4 shf, oc h_sheets_x 8 [.ref h_sheets_x_r], ai G h_sheets_x_r rn rw, oc h_sheets_y 8 [.ref h_sheets_y_r], ai G h_sheets_y_r rn2 f_9] H := hP
        have hD : va_D A [oc h 0 [.ref h_kinds, .ref h_now, .ref h_fault, .ref h_tape, .int taped, .int reads, .ref h_got, .ref h_failing, .ref h_past, .int undoMany, .ref h_aside, .ref h_best, .ref h_tried, .ref h_kept, .ref h_keptPast, .int keptMany, .int isKept, .ref h_sheets], arf G h_sheets 7 4 shf, oc h_sheets_x 8 [.ref h_sheets_x_r], ai G h_sheets_x_r rn rw, oc h_sheets_y 8 [.ref h_sheets_y_r], ai G h_sheets_y_r rn2 f_9] := hD
        refine lv_goto (tgt := 62) hx hb dX0_copy_44 (by decide) ?_
        refine lv_iload hx hb dX0_copy_62 (lv_at hl 5 rfl) ?_
        have hP9 := hP
        have hD9 := hD
        exact w_widen (k := 3) (n := 1010) (by first | exact Nat.le_of_ble_eq_true rfl | omega) (by first | exact Nat.le_of_ble_eq_true rfl | omega) (W.iret (v := p5) hx hb hr (fun t ht hW => ⟨⟨p5, f_9, rfl, hw, by rw [ht]; exact hP9, hD9⟩, hS.F ht⟩) hS.2.2 dX0_copy_64)
      · obtain ⟨h31, h32, hw⟩ := hw.2 c_8
        refine w_cpOut (rest := []) ⟨hx, hb, hml.trans hl.1.symm, hts, hK, hX, hS, hP, hown, hts _ q512, hts _ q440, hts _ q439, hts _ q68, dX0_copy_41, Nat.le_of_ble_eq_true rfl, Nat.le_of_ble_eq_true rfl, Nat.le_of_ble_eq_true rfl, Nat.le_of_ble_eq_true rfl, Nat.le_of_ble_eq_true rfl⟩ 3 5 0 0 rfl rfl rfl rfl h31 h32 c_8 (fun x_7 H hxo hP hS hz hk => ?_)
        obtain ⟨ce, hce, hcv, hcc⟩ := hxo
        obtain ⟨c1, cT, hc1, hcT, hfit⟩ := Cond.castable_spec (args := #[]) (hK.n (args := #[]) q1127 rfl)
        cases hc1.symm.trans hcc
        refine wx_catch (cell := ce) hce (by rw [hcv]; rfl) [⟨18, 44, 47, 354⟩, ⟨18, 44, 52, 360⟩] ⟨18, 44, 57, 362⟩ [] hhd (fun pl hpl z hz => (List.forall_mem_cons.mpr ⟨x_pass (z := ⟨18, 44, 47, 354⟩) (by decide) (by decide) hown (hts _ q734) (hK.2.2 ("java/lang/ArrayIndexOutOfBoundsException", "java/lang/NullPointerException") (by decide +kernel)) hcc pl hpl, (List.forall_mem_cons.mpr ⟨x_pass (z := ⟨18, 44, 52, 360⟩) (by decide) (by decide) hown (hts _ q796) (hK.2.2 ("java/lang/ArrayIndexOutOfBoundsException", "java/lang/ArrayStoreException") (by decide +kernel)) hcc pl hpl, fun _ h9 => absurd h9 List.not_mem_nil⟩)⟩) z hz) (by decide) (by decide) hown (hts _ q810) (cT := cT) hcT hfit ?_
        refine lv_astore (lv' := [(6, .ref x_7), (0, .ref h), (1, .int p1), (2, .int p2), (3, .int p3), (4, .int p4), (5, .int p5)]) hx hb dX0_copy_57 hl (by decide) rfl (fun ls hl => ?_)
        refine lv_bipush (v := (-13 : Int32)) hx hb dX0_copy_59 (by decide) ?_
        have hP9 := hP
        have hD9 := hD
        exact w_widen (k := 3) (n := 1010) (by first | exact Nat.le_of_ble_eq_true rfl | omega) (by first | exact Nat.le_of_ble_eq_true rfl | omega) (W.iret (v := (-13 : Int32)) hx hb hr (fun t ht hW => ⟨⟨(-13 : Int32), rw2, rfl, hw, by rw [ht]; exact hP9, hD9⟩, hS.F ht⟩) hS.2.2 dX0_copy_61)
    · replace hw := hw.2 c_4
      refine lv_iconst (v := (-1 : Int32)) hx hb dX0_copy_16 (by decide) ?_
      have hP9 := hP
      have hD9 := hD
      exact w_widen (k := 3) (n := 1010) (by first | exact Nat.le_of_ble_eq_true rfl | omega) (by first | exact Nat.le_of_ble_eq_true rfl | omega) (W.iret (v := (-1 : Int32)) hx hb hr (fun t ht hW => ⟨⟨(-1 : Int32), rw2, rfl, hw, by rw [ht]; exact hP9, hD9⟩, hS.F ht⟩) hS.2.2 dX0_copy_17)
/-! BattleBench.copy(IIIII)I -/
def wp_X0_copy_IJ (rn : Nat) (rw : Nat → Int32) (rn2 : Nat) (rw2 : Nat → Int64) (p1 : Int32) (p2 : Int32) (p3 : Int32) (p4 : Int32) (p5 : Int32) (Q : Int32 → Prop) : Prop :=
  wp_X0_isSheet  p1 (0 : Int32) (fun r_1 => (((r_1 = 0) → Q (-1 : Int32)) ∧ (¬ (r_1 = 0) → wp_X0_isSheet  p3 (0 : Int32) (fun r_3 => ((¬ (r_3 = 0) → (vp_in p1 4 ∧ (vp_in p3 4 ∧ Q (-12 : Int32)))) ∧ ((r_3 = 0) → Q (-1 : Int32)))))))
set_option maxHeartbeats 4000000 in
theorem mt_X0_copy_IJ (l : Launch) (G : GT) (aS : Nat) (hfl : l.flags = pinnedFlags ++ [noTraceFlag]) (h h_kinds h_now h_fault h_tape h_got h_failing h_past h_aside h_best h_tried h_kept h_keptPast h_sheets h_sheets_x h_sheets_x_r h_sheets_y h_sheets_y_r : Nat) (shf : Nat → Option Nat) (sz : Nat) (taped : Int32) (reads : Int32) (undoMany : Int32) (keptMany : Int32) (isKept : Int32) (rn : Nat) (rw : Nat → Int32) (rn2 : Nat) (rw2 : Nat → Int64) (p1 : Int32) (p2 : Int32) (p3 : Int32) (p4 : Int32) (p5 : Int32)(hsh : shf p1.toNatClampNeg = some h_sheets_x) (hsh2 : shf p3.toNatClampNeg = some h_sheets_y) (Q : Int32 → Prop) (hw : wp_X0_copy_IJ rn rw rn2 rw2 p1 p2 p3 p4 p5 Q) : Met l yX0_copy (wsW_ yX0_copy cX0_copy 7 (some .int) [(18, 44, 47, 354), (18, 44, 52, 360), (18, 44, 57, 362)]) ({ frames := 9, cells := 3, slots := 1010, locals := 10248 } : Room) (va_Pc [.ref h, .int p1, .int p2, .int p3, .int p4, .int p5] (fun U => U.heap.size = sz ∧ va_P G.1 gCl [oc h 0 [.ref h_kinds, .ref h_now, .ref h_fault, .ref h_tape, .int taped, .int reads, .ref h_got, .ref h_failing, .ref h_past, .int undoMany, .ref h_aside, .ref h_best, .ref h_tried, .ref h_kept, .ref h_keptPast, .int keptMany, .int isKept, .ref h_sheets], arf G h_sheets 7 4 shf, oc h_sheets_x 8 [.ref h_sheets_x_r], ai G h_sheets_x_r rn rw, oc h_sheets_y 8 [.ref h_sheets_y_r], al G h_sheets_y_r rn2 rw2] U.heap ∧ gK G U ∧ va_D (fun _ => True) [oc h 0 [.ref h_kinds, .ref h_now, .ref h_fault, .ref h_tape, .int taped, .int reads, .ref h_got, .ref h_failing, .ref h_past, .int undoMany, .ref h_aside, .ref h_best, .ref h_tried, .ref h_kept, .ref h_keptPast, .int keptMany, .int isKept, .ref h_sheets], arf G h_sheets 7 4 shf, oc h_sheets_x 8 [.ref h_sheets_x_r], ai G h_sheets_x_r rn rw, oc h_sheets_y 8 [.ref h_sheets_y_r], al G h_sheets_y_r rn2 rw2] ∧ stS aS U)) ((fun A => (va_Qi (fun (r : Int32) (u : Unit) => Q r ) (fun u t => va_P G.1 gCl [oc h 0 [.ref h_kinds, .ref h_now, .ref h_fault, .ref h_tape, .int taped, .int reads, .ref h_got, .ref h_failing, .ref h_past, .int undoMany, .ref h_aside, .ref h_best, .ref h_tried, .ref h_kept, .ref h_keptPast, .int keptMany, .int isKept, .ref h_sheets], arf G h_sheets 7 4 shf, oc h_sheets_x 8 [.ref h_sheets_x_r], ai G h_sheets_x_r rn rw, oc h_sheets_y 8 [.ref h_sheets_y_r], al G h_sheets_y_r rn2 rw2] t.heap ∧ va_D A [oc h 0 [.ref h_kinds, .ref h_now, .ref h_fault, .ref h_tape, .int taped, .int reads, .ref h_got, .ref h_failing, .ref h_past, .int undoMany, .ref h_aside, .ref h_best, .ref h_tried, .ref h_kept, .ref h_keptPast, .int keptMany, .int isKept, .ref h_sheets], arf G h_sheets 7 4 shf, oc h_sheets_x 8 [.ref h_sheets_x_r], ai G h_sheets_x_r rn rw, oc h_sheets_y 8 [.ref h_sheets_y_r], al G h_sheets_y_r rn2 rw2]) A)) (va_A [oc h 0 [.ref h_kinds, .ref h_now, .ref h_fault, .ref h_tape, .int taped, .int reads, .ref h_got, .ref h_failing, .ref h_past, .int undoMany, .ref h_aside, .ref h_best, .ref h_tried, .ref h_kept, .ref h_keptPast, .int keptMany, .int isKept, .ref h_sheets], arf G h_sheets 7 4 shf, oc h_sheets_x 8 [.ref h_sheets_x_r], ai G h_sheets_x_r rn rw, oc h_sheets_y 8 [.ref h_sheets_y_r], al G h_sheets_y_r rn2 rw2] sz)) 3 1010 (va_A [oc h 0 [.ref h_kinds, .ref h_now, .ref h_fault, .ref h_tape, .int taped, .int reads, .ref h_got, .ref h_failing, .ref h_past, .int undoMany, .ref h_aside, .ref h_best, .ref h_tried, .ref h_kept, .ref h_keptPast, .int keptMany, .int isKept, .ref h_sheets], arf G h_sheets 7 4 shf, oc h_sheets_x 8 [.ref h_sheets_x_r], ai G h_sheets_x_r rn rw, oc h_sheets_y 8 [.ref h_sheets_y_r], al G h_sheets_y_r rn2 rw2] sz) := by
  refine va_MetW (hh := [(18, 44, 47, 354), (18, 44, 52, 360), (18, 44, 57, 362)]) (cc := cX0_copy) (maxL := 7) (ret := (some .int)) (by decide) rfl ?_
  intro p e s m args below meth c s₁ B hml hv
  obtain ⟨rfl, hsz, hP, hK, hD0, hst⟩ := hv
  have hx := B.exec
  have hb := B.bytes
  have hr := B.returns
  have hts := atoms_spec (ws := (wsW_ yX0_copy cX0_copy 7 (some .int) [(18, 44, 47, 354), (18, 44, 52, 360), (18, 44, 57, 362)])) B.pre
  have hts : ∀ w ∈ lw_all, w.before _ s = true := fun w h => hts w (List.mem_cons_of_mem _ h)
  have hown : s.vm.findClass RX0 = some m.cls := findClass_of_methodNamed B.named
  have hlocks := B.notSynchronized
  have hhd : c.exceptionTable.toList = [⟨18, 44, 47, 354⟩, ⟨18, 44, 52, 360⟩, ⟨18, 44, 57, 362⟩] := x_hand B (atoms_spec (ws := (wsW_ yX0_copy cX0_copy 7 (some .int) [(18, 44, 47, 354), (18, 44, 52, 360), (18, 44, 57, 362)])) B.pre _ List.mem_cons_self)
  subst hsz
  have hD := hD0.self (sz := s.heap.size)
  generalize hAe : va_A [oc h 0 [.ref h_kinds, .ref h_now, .ref h_fault, .ref h_tape, .int taped, .int reads, .ref h_got, .ref h_failing, .ref h_past, .int undoMany, .ref h_aside, .ref h_best, .ref h_tried, .ref h_kept, .ref h_keptPast, .int keptMany, .int isKept, .ref h_sheets], arf G h_sheets 7 4 shf, oc h_sheets_x 8 [.ref h_sheets_x_r], ai G h_sheets_x_r rn rw, oc h_sheets_y 8 [.ref h_sheets_y_r], al G h_sheets_y_r rn2 rw2] s.heap.size = A at hD ⊢
  have hA : ∀ q : Nat, s.heap.size ≤ q → A q := fun q h => by rw [← hAe]; exact Or.inr h
  have hS : va_S A s.heap s.heap [] := va_S.rf
  have hX : XCx l aS s A := ⟨hfl, hst, fun q cell hq hc => va_A.ns hP (by rw [hAe]; exact hq) hc⟩
  have C : Cx p s m meth c cX0_copy 7 (some .int) RX0 ([.ref h, .int p1, .int p2, .int p3, .int p4, .int p5] : List Value).toArray G A := ⟨hx, hb, hr, hlocks, hml, hown, hts, hK, hA⟩
  have hl := lv_entry ([.ref h, .int p1, .int p2, .int p3, .int p4, .int p5]) (n := 7) (Nat.le_of_ble_eq_true rfl)
  rw [lg_entry_eq]
  generalize (lg_sl ([.ref h, .int p1, .int p2, .int p3, .int p4, .int p5]) ++ List.replicate (7 - (lg_sl ([.ref h, .int p1, .int p2, .int p3, .int p4, .int p5])).length) Slot.unset).toArray = ls at hl ⊢
  have hl : lv_has ls 7 [(0, .ref h), (1, .int p1), (2, .int p2), (3, .int p3), (4, .int p4), (5, .int p5)] := hl
  unfold wp_X0_copy_IJ at hw
  refine lv_iload_n hx hb dX0_copy_0 rfl (lv_at hl 1 rfl) ?_
  refine lv_iconst (v := (0 : Int32)) hx hb dX0_copy_1 (by decide) ?_
  have hPc := hP.sub (ws' := []) [] rfl
  have hDc := hD.sub (ws' := []) [] (by decide) rfl
  have hFc := va_free (wc := []) hD hS hA [] rfl
  refine va_calli (va_runS (As := [.int p1, .int (0 : Int32)]) (rest := []) ⟨hx, hb, hml, hown, hts⟩ (mt_X0_isSheet l G  s.heap.size  p1 (0 : Int32) _ hw) (va_cwS 2 hts (lw_S q648 q649 q54 q650) rfl rfl rfl (by decide +kernel) ⟨Nat.le_of_ble_eq_true rfl, Nat.le_of_ble_eq_true rfl⟩) ⟨fun a U g mk q => by obtain ⟨q0, q1, qP, qK, qD⟩ := q; exact ⟨q0, q1, qP, qK.call, qD⟩, fun U hU hW => ⟨rfl, by rw [hU], by rw [hU]; exact hPc, hK.warm hW, hDc.weaken (fun _ _ _ _ => trivial)⟩⟩ rfl rfl hl.1 rfl (lv_room (Nat.le_of_ble_eq_true rfl)) dX0_copy_2 ⟨Nat.le_of_ble_eq_true rfl, Nat.le_of_ble_eq_true rfl⟩) hS (fun q _ h => hFc q h) hFc (fun r_1 _ t H1 locs ht hvm hw hB hz1 hk1 hS => ?_)
  obtain ⟨hP1, hD1⟩ := hB
  rw [ht] at hP1
  obtain ⟨hP, hD⟩ := va_join (wr := [oc h 0 [.ref h_kinds, .ref h_now, .ref h_fault, .ref h_tape, .int taped, .int reads, .ref h_got, .ref h_failing, .ref h_past, .int undoMany, .ref h_aside, .ref h_best, .ref h_tried, .ref h_kept, .ref h_keptPast, .int keptMany, .int isKept, .ref h_sheets], arf G h_sheets 7 4 shf, oc h_sheets_x 8 [.ref h_sheets_x_r], ai G h_sheets_x_r rn rw, oc h_sheets_y 8 [.ref h_sheets_y_r], al G h_sheets_y_r rn2 rw2]) (w1 := []) hP hD [] [0, 1, 2, 3, 4, 5] rfl rfl (by decide) (by decide) hk1 hFc hP1 hD1
  clear hPc hDc hFc hP1 hD1 hz1 hk1 hvm
  generalize H1 = H at hP hS ⊢
  have hP : va_P G.1 gCl [oc h 0 [.ref h_kinds, .ref h_now, .ref h_fault, .ref h_tape, .int taped, .int reads, .ref h_got, .ref h_failing, .ref h_past, .int undoMany, .ref h_aside, .ref h_best, .ref h_tried, .ref h_kept, .ref h_keptPast, .int keptMany, .int isKept, .ref h_sheets], arf G h_sheets 7 4 shf, oc h_sheets_x 8 [.ref h_sheets_x_r], ai G h_sheets_x_r rn rw, oc h_sheets_y 8 [.ref h_sheets_y_r], al G h_sheets_y_r rn2 rw2] H := hP
  have hD : va_D A [oc h 0 [.ref h_kinds, .ref h_now, .ref h_fault, .ref h_tape, .int taped, .int reads, .ref h_got, .ref h_failing, .ref h_past, .int undoMany, .ref h_aside, .ref h_best, .ref h_tried, .ref h_kept, .ref h_keptPast, .int keptMany, .int isKept, .ref h_sheets], arf G h_sheets 7 4 shf, oc h_sheets_x 8 [.ref h_sheets_x_r], ai G h_sheets_x_r rn rw, oc h_sheets_y 8 [.ref h_sheets_y_r], al G h_sheets_y_r rn2 rw2] := hD
  refine lv_if_eq (tgt := 16) hx hb dX0_copy_5 (by decide) (fun c_2 => ?_) (fun c_2 => ?_)
  · replace hw := hw.1 c_2
    refine lv_iconst (v := (-1 : Int32)) hx hb dX0_copy_16 (by decide) ?_
    have hP9 := hP
    have hD9 := hD
    exact w_widen (k := 3) (n := 1010) (by first | exact Nat.le_of_ble_eq_true rfl | omega) (by first | exact Nat.le_of_ble_eq_true rfl | omega) (W.iret (v := (-1 : Int32)) hx hb hr (fun t ht hW => ⟨⟨(-1 : Int32), (), rfl, hw, by rw [ht]; exact hP9, hD9⟩, hS.F ht⟩) hS.2.2 dX0_copy_17)
  · replace hw := hw.2 c_2
    refine lv_iload_n hx hb dX0_copy_8 rfl (lv_at hl 3 rfl) ?_
    refine lv_iconst (v := (0 : Int32)) hx hb dX0_copy_9 (by decide) ?_
    have hPc := hP.sub (ws' := []) [] rfl
    have hDc := hD.sub (ws' := []) [] (by decide) rfl
    have hFc := va_free (wc := []) hD hS hA [] rfl
    refine va_calli (va_runS (As := [.int p3, .int (0 : Int32)]) (rest := []) ⟨hx, hb, hml, hown, hts⟩ (mt_X0_isSheet l G  H.size  p3 (0 : Int32) _ hw) (va_cwS 2 hts (lw_S q648 q649 q54 q650) rfl rfl rfl (by decide +kernel) ⟨Nat.le_of_ble_eq_true rfl, Nat.le_of_ble_eq_true rfl⟩) ⟨fun a U g mk q => by obtain ⟨q0, q1, qP, qK, qD⟩ := q; exact ⟨q0, q1, qP, qK.call, qD⟩, fun U hU hW => ⟨rfl, by rw [hU], by rw [hU]; exact hPc, hK.warm hW, hDc.weaken (fun _ _ _ _ => trivial)⟩⟩ rfl rfl hl.1 rfl (lv_room (Nat.le_of_ble_eq_true rfl)) dX0_copy_10 ⟨Nat.le_of_ble_eq_true rfl, Nat.le_of_ble_eq_true rfl⟩) hS (fun q _ h => hFc q h) hFc (fun r_3 _ t H1 locs ht hvm hw hB hz1 hk1 hS => ?_)
    obtain ⟨hP1, hD1⟩ := hB
    rw [ht] at hP1
    obtain ⟨hP, hD⟩ := va_join (wr := [oc h 0 [.ref h_kinds, .ref h_now, .ref h_fault, .ref h_tape, .int taped, .int reads, .ref h_got, .ref h_failing, .ref h_past, .int undoMany, .ref h_aside, .ref h_best, .ref h_tried, .ref h_kept, .ref h_keptPast, .int keptMany, .int isKept, .ref h_sheets], arf G h_sheets 7 4 shf, oc h_sheets_x 8 [.ref h_sheets_x_r], ai G h_sheets_x_r rn rw, oc h_sheets_y 8 [.ref h_sheets_y_r], al G h_sheets_y_r rn2 rw2]) (w1 := []) hP hD [] [0, 1, 2, 3, 4, 5] rfl rfl (by decide) (by decide) hk1 hFc hP1 hD1
    clear hPc hDc hFc hP1 hD1 hz1 hk1 hvm
    generalize H1 = H at hP hS ⊢
    have hP : va_P G.1 gCl [oc h 0 [.ref h_kinds, .ref h_now, .ref h_fault, .ref h_tape, .int taped, .int reads, .ref h_got, .ref h_failing, .ref h_past, .int undoMany, .ref h_aside, .ref h_best, .ref h_tried, .ref h_kept, .ref h_keptPast, .int keptMany, .int isKept, .ref h_sheets], arf G h_sheets 7 4 shf, oc h_sheets_x 8 [.ref h_sheets_x_r], ai G h_sheets_x_r rn rw, oc h_sheets_y 8 [.ref h_sheets_y_r], al G h_sheets_y_r rn2 rw2] H := hP
    have hD : va_D A [oc h 0 [.ref h_kinds, .ref h_now, .ref h_fault, .ref h_tape, .int taped, .int reads, .ref h_got, .ref h_failing, .ref h_past, .int undoMany, .ref h_aside, .ref h_best, .ref h_tried, .ref h_kept, .ref h_keptPast, .int keptMany, .int isKept, .ref h_sheets], arf G h_sheets 7 4 shf, oc h_sheets_x 8 [.ref h_sheets_x_r], ai G h_sheets_x_r rn rw, oc h_sheets_y 8 [.ref h_sheets_y_r], al G h_sheets_y_r rn2 rw2] := hD
    refine lv_if_ne (tgt := 18) hx hb dX0_copy_13 (by decide) (fun c_4 => ?_) (fun c_4 => ?_)
    · replace hw := hw.1 c_4
      refine lv_aload_n hx hb dX0_copy_18 rfl (lv_at hl 0 rfl) ?_
      refine va_get (D := G.1) (ci := 0) (v := .ref h_sheets) (C := RX0) (T := TX0) (N := 18) hx hb hts in_X0 hown hK.1 hP 0 rfl rfl 17 (by decide) (hts _ q273) (fun _ h9 => h9) rfl dX0_copy_19 ?_
      refine lv_iload_n hx hb dX0_copy_22 rfl (lv_at hl 1 rfl) ?_
      obtain ⟨i_5, hw⟩ := hw
      refine z_aaldS hx hb hK.1 hP 1 7 rfl rfl i_5 dX0_copy_23 hsh ?_
      refine va_getN (D := G.1) (ci := 8) (v := .ref h_sheets_x_r) (C := RX8) (T := TX8) (N := 1) hx hb hts in_X8 hown hK.1 hP 2 rfl rfl 0 (by decide) (hK.n q251 rfl) (fun _ h9 => h9) rfl dX0_copy_24 ?_
      refine lv_iload_n hx hb dX0_copy_27 rfl (lv_at hl 2 rfl) ?_
      refine lv_aload_n hx hb dX0_copy_28 rfl (lv_at hl 0 rfl) ?_
      refine va_get (D := G.1) (ci := 0) (v := .ref h_sheets) (C := RX0) (T := TX0) (N := 18) hx hb hts in_X0 hown hK.1 hP 0 rfl rfl 17 (by decide) (hts _ q273) (fun _ h9 => h9) rfl dX0_copy_29 ?_
      refine lv_iload_n hx hb dX0_copy_32 rfl (lv_at hl 3 rfl) ?_
      obtain ⟨i_6, hw⟩ := hw
      refine z_aaldS hx hb hK.1 hP 1 7 rfl rfl i_6 dX0_copy_33 hsh2 ?_
      refine va_getN (D := G.1) (ci := 8) (v := .ref h_sheets_y_r) (C := RX8) (T := TX8) (N := 1) hx hb hts in_X8 hown hK.1 hP 4 rfl rfl 0 (by decide) (hK.n q251 rfl) (fun _ h9 => h9) rfl dX0_copy_34 ?_
      refine lv_iload hx hb dX0_copy_37 (lv_at hl 4 rfl) ?_
      refine lv_iload hx hb dX0_copy_39 (lv_at hl 5 rfl) ?_
      refine w_cpType (rest := []) ⟨hx, hb, hml.trans hl.1.symm, hts, hK, hX, hS, hP, hown, hts _ q512, hts _ q440, hts _ q439, hts _ q68, dX0_copy_41, Nat.le_of_ble_eq_true rfl, Nat.le_of_ble_eq_true rfl, Nat.le_of_ble_eq_true rfl, Nat.le_of_ble_eq_true rfl, Nat.le_of_ble_eq_true rfl⟩ 3 5 0 1 rfl rfl rfl rfl (by decide) (fun x_7 H hxo hP hS hz hk => ?_)
      obtain ⟨ce, hce, hcv, hcc⟩ := hxo
      refine wx_catch (cell := ce) hce (by rw [hcv]; rfl) [⟨18, 44, 47, 354⟩] ⟨18, 44, 52, 360⟩ [⟨18, 44, 57, 362⟩] hhd (fun pl hpl z hz => (List.forall_mem_cons.mpr ⟨x_pass (z := ⟨18, 44, 47, 354⟩) (by decide) (by decide) hown (hts _ q734) (hK.2.2 ("java/lang/ArrayStoreException", "java/lang/NullPointerException") (by decide +kernel)) hcc pl hpl, fun _ h9 => absurd h9 List.not_mem_nil⟩) z hz) (by decide) (by decide) hown (hts _ q796) (cT := ce.cls) hcc (vm_refl (args := #[]) (hK.n q808 rfl) hcc) ?_
      refine lv_astore (lv' := [(6, .ref x_7), (0, .ref h), (1, .int p1), (2, .int p2), (3, .int p3), (4, .int p4), (5, .int p5)]) hx hb dX0_copy_52 hl (by decide) rfl (fun ls hl => ?_)
      refine lv_bipush (v := (-12 : Int32)) hx hb dX0_copy_54 (by decide) ?_
      have hP9 := hP
      have hD9 := hD
      exact w_widen (k := 3) (n := 1010) (by first | exact Nat.le_of_ble_eq_true rfl | omega) (by first | exact Nat.le_of_ble_eq_true rfl | omega) (W.iret (v := (-12 : Int32)) hx hb hr (fun t ht hW => ⟨⟨(-12 : Int32), (), rfl, hw, by rw [ht]; exact hP9, hD9⟩, hS.F ht⟩) hS.2.2 dX0_copy_56)
    · replace hw := hw.2 c_4
      refine lv_iconst (v := (-1 : Int32)) hx hb dX0_copy_16 (by decide) ?_
      have hP9 := hP
      have hD9 := hD
      exact w_widen (k := 3) (n := 1010) (by first | exact Nat.le_of_ble_eq_true rfl | omega) (by first | exact Nat.le_of_ble_eq_true rfl | omega) (W.iret (v := (-1 : Int32)) hx hb hr (fun t ht hW => ⟨⟨(-1 : Int32), (), rfl, hw, by rw [ht]; exact hP9, hD9⟩, hS.F ht⟩) hS.2.2 dX0_copy_17)
/-! BattleBench.copy(IIIII)I -/
def wp_X0_copy_IN (rn : Nat) (rw : Nat → Int32) (p1 : Int32) (p2 : Int32) (p3 : Int32) (p4 : Int32) (p5 : Int32) (Q : Int32 → Prop) : Prop :=
  wp_X0_isSheet  p1 (0 : Int32) (fun r_1 => (((r_1 = 0) → Q (-1 : Int32)) ∧ (¬ (r_1 = 0) → wp_X0_isSheet  p3 (0 : Int32) (fun r_3 => ((¬ (r_3 = 0) → (vp_in p1 4 ∧ (vp_in p3 4 ∧ Q (-11 : Int32)))) ∧ ((r_3 = 0) → Q (-1 : Int32)))))))
set_option maxHeartbeats 4000000 in
theorem mt_X0_copy_IN (l : Launch) (G : GT) (aS : Nat) (hfl : l.flags = pinnedFlags ++ [noTraceFlag]) (h h_kinds h_now h_fault h_tape h_got h_failing h_past h_aside h_best h_tried h_kept h_keptPast h_sheets h_sheets_x h_sheets_x_r h_sheets_y : Nat) (shf : Nat → Option Nat) (sz : Nat) (taped : Int32) (reads : Int32) (undoMany : Int32) (keptMany : Int32) (isKept : Int32) (rn : Nat) (rw : Nat → Int32) (p1 : Int32) (p2 : Int32) (p3 : Int32) (p4 : Int32) (p5 : Int32)(hsh : shf p1.toNatClampNeg = some h_sheets_x) (hsh2 : shf p3.toNatClampNeg = some h_sheets_y) (Q : Int32 → Prop) (hw : wp_X0_copy_IN rn rw p1 p2 p3 p4 p5 Q) : Met l yX0_copy (wsW_ yX0_copy cX0_copy 7 (some .int) [(18, 44, 47, 354), (18, 44, 52, 360), (18, 44, 57, 362)]) ({ frames := 9, cells := 3, slots := 1010, locals := 10248 } : Room) (va_Pc [.ref h, .int p1, .int p2, .int p3, .int p4, .int p5] (fun U => U.heap.size = sz ∧ va_P G.1 gCl [oc h 0 [.ref h_kinds, .ref h_now, .ref h_fault, .ref h_tape, .int taped, .int reads, .ref h_got, .ref h_failing, .ref h_past, .int undoMany, .ref h_aside, .ref h_best, .ref h_tried, .ref h_kept, .ref h_keptPast, .int keptMany, .int isKept, .ref h_sheets], arf G h_sheets 7 4 shf, oc h_sheets_x 8 [.ref h_sheets_x_r], ai G h_sheets_x_r rn rw, oc h_sheets_y 8 [.null]] U.heap ∧ gK G U ∧ va_D (fun _ => True) [oc h 0 [.ref h_kinds, .ref h_now, .ref h_fault, .ref h_tape, .int taped, .int reads, .ref h_got, .ref h_failing, .ref h_past, .int undoMany, .ref h_aside, .ref h_best, .ref h_tried, .ref h_kept, .ref h_keptPast, .int keptMany, .int isKept, .ref h_sheets], arf G h_sheets 7 4 shf, oc h_sheets_x 8 [.ref h_sheets_x_r], ai G h_sheets_x_r rn rw, oc h_sheets_y 8 [.null]] ∧ stS aS U)) ((fun A => (va_Qi (fun (r : Int32) (u : Unit) => Q r ) (fun u t => va_P G.1 gCl [oc h 0 [.ref h_kinds, .ref h_now, .ref h_fault, .ref h_tape, .int taped, .int reads, .ref h_got, .ref h_failing, .ref h_past, .int undoMany, .ref h_aside, .ref h_best, .ref h_tried, .ref h_kept, .ref h_keptPast, .int keptMany, .int isKept, .ref h_sheets], arf G h_sheets 7 4 shf, oc h_sheets_x 8 [.ref h_sheets_x_r], ai G h_sheets_x_r rn rw, oc h_sheets_y 8 [.null]] t.heap ∧ va_D A [oc h 0 [.ref h_kinds, .ref h_now, .ref h_fault, .ref h_tape, .int taped, .int reads, .ref h_got, .ref h_failing, .ref h_past, .int undoMany, .ref h_aside, .ref h_best, .ref h_tried, .ref h_kept, .ref h_keptPast, .int keptMany, .int isKept, .ref h_sheets], arf G h_sheets 7 4 shf, oc h_sheets_x 8 [.ref h_sheets_x_r], ai G h_sheets_x_r rn rw, oc h_sheets_y 8 [.null]]) A)) (va_A [oc h 0 [.ref h_kinds, .ref h_now, .ref h_fault, .ref h_tape, .int taped, .int reads, .ref h_got, .ref h_failing, .ref h_past, .int undoMany, .ref h_aside, .ref h_best, .ref h_tried, .ref h_kept, .ref h_keptPast, .int keptMany, .int isKept, .ref h_sheets], arf G h_sheets 7 4 shf, oc h_sheets_x 8 [.ref h_sheets_x_r], ai G h_sheets_x_r rn rw, oc h_sheets_y 8 [.null]] sz)) 3 1010 (va_A [oc h 0 [.ref h_kinds, .ref h_now, .ref h_fault, .ref h_tape, .int taped, .int reads, .ref h_got, .ref h_failing, .ref h_past, .int undoMany, .ref h_aside, .ref h_best, .ref h_tried, .ref h_kept, .ref h_keptPast, .int keptMany, .int isKept, .ref h_sheets], arf G h_sheets 7 4 shf, oc h_sheets_x 8 [.ref h_sheets_x_r], ai G h_sheets_x_r rn rw, oc h_sheets_y 8 [.null]] sz) := by
  refine va_MetW (hh := [(18, 44, 47, 354), (18, 44, 52, 360), (18, 44, 57, 362)]) (cc := cX0_copy) (maxL := 7) (ret := (some .int)) (by decide) rfl ?_
  intro p e s m args below meth c s₁ B hml hv
  obtain ⟨rfl, hsz, hP, hK, hD0, hst⟩ := hv
  have hx := B.exec
  have hb := B.bytes
  have hr := B.returns
  have hts := atoms_spec (ws := (wsW_ yX0_copy cX0_copy 7 (some .int) [(18, 44, 47, 354), (18, 44, 52, 360), (18, 44, 57, 362)])) B.pre
  have hts : ∀ w ∈ lw_all, w.before _ s = true := fun w h => hts w (List.mem_cons_of_mem _ h)
  have hown : s.vm.findClass RX0 = some m.cls := findClass_of_methodNamed B.named
  have hlocks := B.notSynchronized
  have hhd : c.exceptionTable.toList = [⟨18, 44, 47, 354⟩, ⟨18, 44, 52, 360⟩, ⟨18, 44, 57, 362⟩] := x_hand B (atoms_spec (ws := (wsW_ yX0_copy cX0_copy 7 (some .int) [(18, 44, 47, 354), (18, 44, 52, 360), (18, 44, 57, 362)])) B.pre _ List.mem_cons_self)
  subst hsz
  have hD := hD0.self (sz := s.heap.size)
  generalize hAe : va_A [oc h 0 [.ref h_kinds, .ref h_now, .ref h_fault, .ref h_tape, .int taped, .int reads, .ref h_got, .ref h_failing, .ref h_past, .int undoMany, .ref h_aside, .ref h_best, .ref h_tried, .ref h_kept, .ref h_keptPast, .int keptMany, .int isKept, .ref h_sheets], arf G h_sheets 7 4 shf, oc h_sheets_x 8 [.ref h_sheets_x_r], ai G h_sheets_x_r rn rw, oc h_sheets_y 8 [.null]] s.heap.size = A at hD ⊢
  have hA : ∀ q : Nat, s.heap.size ≤ q → A q := fun q h => by rw [← hAe]; exact Or.inr h
  have hS : va_S A s.heap s.heap [] := va_S.rf
  have hX : XCx l aS s A := ⟨hfl, hst, fun q cell hq hc => va_A.ns hP (by rw [hAe]; exact hq) hc⟩
  have C : Cx p s m meth c cX0_copy 7 (some .int) RX0 ([.ref h, .int p1, .int p2, .int p3, .int p4, .int p5] : List Value).toArray G A := ⟨hx, hb, hr, hlocks, hml, hown, hts, hK, hA⟩
  have hl := lv_entry ([.ref h, .int p1, .int p2, .int p3, .int p4, .int p5]) (n := 7) (Nat.le_of_ble_eq_true rfl)
  rw [lg_entry_eq]
  generalize (lg_sl ([.ref h, .int p1, .int p2, .int p3, .int p4, .int p5]) ++ List.replicate (7 - (lg_sl ([.ref h, .int p1, .int p2, .int p3, .int p4, .int p5])).length) Slot.unset).toArray = ls at hl ⊢
  have hl : lv_has ls 7 [(0, .ref h), (1, .int p1), (2, .int p2), (3, .int p3), (4, .int p4), (5, .int p5)] := hl
  unfold wp_X0_copy_IN at hw
  refine lv_iload_n hx hb dX0_copy_0 rfl (lv_at hl 1 rfl) ?_
  refine lv_iconst (v := (0 : Int32)) hx hb dX0_copy_1 (by decide) ?_
  have hPc := hP.sub (ws' := []) [] rfl
  have hDc := hD.sub (ws' := []) [] (by decide) rfl
  have hFc := va_free (wc := []) hD hS hA [] rfl
  refine va_calli (va_runS (As := [.int p1, .int (0 : Int32)]) (rest := []) ⟨hx, hb, hml, hown, hts⟩ (mt_X0_isSheet l G  s.heap.size  p1 (0 : Int32) _ hw) (va_cwS 2 hts (lw_S q648 q649 q54 q650) rfl rfl rfl (by decide +kernel) ⟨Nat.le_of_ble_eq_true rfl, Nat.le_of_ble_eq_true rfl⟩) ⟨fun a U g mk q => by obtain ⟨q0, q1, qP, qK, qD⟩ := q; exact ⟨q0, q1, qP, qK.call, qD⟩, fun U hU hW => ⟨rfl, by rw [hU], by rw [hU]; exact hPc, hK.warm hW, hDc.weaken (fun _ _ _ _ => trivial)⟩⟩ rfl rfl hl.1 rfl (lv_room (Nat.le_of_ble_eq_true rfl)) dX0_copy_2 ⟨Nat.le_of_ble_eq_true rfl, Nat.le_of_ble_eq_true rfl⟩) hS (fun q _ h => hFc q h) hFc (fun r_1 _ t H1 locs ht hvm hw hB hz1 hk1 hS => ?_)
  obtain ⟨hP1, hD1⟩ := hB
  rw [ht] at hP1
  obtain ⟨hP, hD⟩ := va_join (wr := [oc h 0 [.ref h_kinds, .ref h_now, .ref h_fault, .ref h_tape, .int taped, .int reads, .ref h_got, .ref h_failing, .ref h_past, .int undoMany, .ref h_aside, .ref h_best, .ref h_tried, .ref h_kept, .ref h_keptPast, .int keptMany, .int isKept, .ref h_sheets], arf G h_sheets 7 4 shf, oc h_sheets_x 8 [.ref h_sheets_x_r], ai G h_sheets_x_r rn rw, oc h_sheets_y 8 [.null]]) (w1 := []) hP hD [] [0, 1, 2, 3, 4] rfl rfl (by decide) (by decide) hk1 hFc hP1 hD1
  clear hPc hDc hFc hP1 hD1 hz1 hk1 hvm
  generalize H1 = H at hP hS ⊢
  have hP : va_P G.1 gCl [oc h 0 [.ref h_kinds, .ref h_now, .ref h_fault, .ref h_tape, .int taped, .int reads, .ref h_got, .ref h_failing, .ref h_past, .int undoMany, .ref h_aside, .ref h_best, .ref h_tried, .ref h_kept, .ref h_keptPast, .int keptMany, .int isKept, .ref h_sheets], arf G h_sheets 7 4 shf, oc h_sheets_x 8 [.ref h_sheets_x_r], ai G h_sheets_x_r rn rw, oc h_sheets_y 8 [.null]] H := hP
  have hD : va_D A [oc h 0 [.ref h_kinds, .ref h_now, .ref h_fault, .ref h_tape, .int taped, .int reads, .ref h_got, .ref h_failing, .ref h_past, .int undoMany, .ref h_aside, .ref h_best, .ref h_tried, .ref h_kept, .ref h_keptPast, .int keptMany, .int isKept, .ref h_sheets], arf G h_sheets 7 4 shf, oc h_sheets_x 8 [.ref h_sheets_x_r], ai G h_sheets_x_r rn rw, oc h_sheets_y 8 [.null]] := hD
  refine lv_if_eq (tgt := 16) hx hb dX0_copy_5 (by decide) (fun c_2 => ?_) (fun c_2 => ?_)
  · replace hw := hw.1 c_2
    refine lv_iconst (v := (-1 : Int32)) hx hb dX0_copy_16 (by decide) ?_
    have hP9 := hP
    have hD9 := hD
    exact w_widen (k := 3) (n := 1010) (by first | exact Nat.le_of_ble_eq_true rfl | omega) (by first | exact Nat.le_of_ble_eq_true rfl | omega) (W.iret (v := (-1 : Int32)) hx hb hr (fun t ht hW => ⟨⟨(-1 : Int32), (), rfl, hw, by rw [ht]; exact hP9, hD9⟩, hS.F ht⟩) hS.2.2 dX0_copy_17)
  · replace hw := hw.2 c_2
    refine lv_iload_n hx hb dX0_copy_8 rfl (lv_at hl 3 rfl) ?_
    refine lv_iconst (v := (0 : Int32)) hx hb dX0_copy_9 (by decide) ?_
    have hPc := hP.sub (ws' := []) [] rfl
    have hDc := hD.sub (ws' := []) [] (by decide) rfl
    have hFc := va_free (wc := []) hD hS hA [] rfl
    refine va_calli (va_runS (As := [.int p3, .int (0 : Int32)]) (rest := []) ⟨hx, hb, hml, hown, hts⟩ (mt_X0_isSheet l G  H.size  p3 (0 : Int32) _ hw) (va_cwS 2 hts (lw_S q648 q649 q54 q650) rfl rfl rfl (by decide +kernel) ⟨Nat.le_of_ble_eq_true rfl, Nat.le_of_ble_eq_true rfl⟩) ⟨fun a U g mk q => by obtain ⟨q0, q1, qP, qK, qD⟩ := q; exact ⟨q0, q1, qP, qK.call, qD⟩, fun U hU hW => ⟨rfl, by rw [hU], by rw [hU]; exact hPc, hK.warm hW, hDc.weaken (fun _ _ _ _ => trivial)⟩⟩ rfl rfl hl.1 rfl (lv_room (Nat.le_of_ble_eq_true rfl)) dX0_copy_10 ⟨Nat.le_of_ble_eq_true rfl, Nat.le_of_ble_eq_true rfl⟩) hS (fun q _ h => hFc q h) hFc (fun r_3 _ t H1 locs ht hvm hw hB hz1 hk1 hS => ?_)
    obtain ⟨hP1, hD1⟩ := hB
    rw [ht] at hP1
    obtain ⟨hP, hD⟩ := va_join (wr := [oc h 0 [.ref h_kinds, .ref h_now, .ref h_fault, .ref h_tape, .int taped, .int reads, .ref h_got, .ref h_failing, .ref h_past, .int undoMany, .ref h_aside, .ref h_best, .ref h_tried, .ref h_kept, .ref h_keptPast, .int keptMany, .int isKept, .ref h_sheets], arf G h_sheets 7 4 shf, oc h_sheets_x 8 [.ref h_sheets_x_r], ai G h_sheets_x_r rn rw, oc h_sheets_y 8 [.null]]) (w1 := []) hP hD [] [0, 1, 2, 3, 4] rfl rfl (by decide) (by decide) hk1 hFc hP1 hD1
    clear hPc hDc hFc hP1 hD1 hz1 hk1 hvm
    generalize H1 = H at hP hS ⊢
    have hP : va_P G.1 gCl [oc h 0 [.ref h_kinds, .ref h_now, .ref h_fault, .ref h_tape, .int taped, .int reads, .ref h_got, .ref h_failing, .ref h_past, .int undoMany, .ref h_aside, .ref h_best, .ref h_tried, .ref h_kept, .ref h_keptPast, .int keptMany, .int isKept, .ref h_sheets], arf G h_sheets 7 4 shf, oc h_sheets_x 8 [.ref h_sheets_x_r], ai G h_sheets_x_r rn rw, oc h_sheets_y 8 [.null]] H := hP
    have hD : va_D A [oc h 0 [.ref h_kinds, .ref h_now, .ref h_fault, .ref h_tape, .int taped, .int reads, .ref h_got, .ref h_failing, .ref h_past, .int undoMany, .ref h_aside, .ref h_best, .ref h_tried, .ref h_kept, .ref h_keptPast, .int keptMany, .int isKept, .ref h_sheets], arf G h_sheets 7 4 shf, oc h_sheets_x 8 [.ref h_sheets_x_r], ai G h_sheets_x_r rn rw, oc h_sheets_y 8 [.null]] := hD
    refine lv_if_ne (tgt := 18) hx hb dX0_copy_13 (by decide) (fun c_4 => ?_) (fun c_4 => ?_)
    · replace hw := hw.1 c_4
      refine lv_aload_n hx hb dX0_copy_18 rfl (lv_at hl 0 rfl) ?_
      refine va_get (D := G.1) (ci := 0) (v := .ref h_sheets) (C := RX0) (T := TX0) (N := 18) hx hb hts in_X0 hown hK.1 hP 0 rfl rfl 17 (by decide) (hts _ q273) (fun _ h9 => h9) rfl dX0_copy_19 ?_
      refine lv_iload_n hx hb dX0_copy_22 rfl (lv_at hl 1 rfl) ?_
      obtain ⟨i_5, hw⟩ := hw
      refine z_aaldS hx hb hK.1 hP 1 7 rfl rfl i_5 dX0_copy_23 hsh ?_
      refine va_getN (D := G.1) (ci := 8) (v := .ref h_sheets_x_r) (C := RX8) (T := TX8) (N := 1) hx hb hts in_X8 hown hK.1 hP 2 rfl rfl 0 (by decide) (hK.n q251 rfl) (fun _ h9 => h9) rfl dX0_copy_24 ?_
      refine lv_iload_n hx hb dX0_copy_27 rfl (lv_at hl 2 rfl) ?_
      refine lv_aload_n hx hb dX0_copy_28 rfl (lv_at hl 0 rfl) ?_
      refine va_get (D := G.1) (ci := 0) (v := .ref h_sheets) (C := RX0) (T := TX0) (N := 18) hx hb hts in_X0 hown hK.1 hP 0 rfl rfl 17 (by decide) (hts _ q273) (fun _ h9 => h9) rfl dX0_copy_29 ?_
      refine lv_iload_n hx hb dX0_copy_32 rfl (lv_at hl 3 rfl) ?_
      obtain ⟨i_6, hw⟩ := hw
      refine z_aaldS hx hb hK.1 hP 1 7 rfl rfl i_6 dX0_copy_33 hsh2 ?_
      refine va_getN (D := G.1) (ci := 8) (v := .null) (C := RX8) (T := TX8) (N := 1) hx hb hts in_X8 hown hK.1 hP 4 rfl rfl 0 (by decide) (hK.n q251 rfl) (fun _ h9 => h9) rfl dX0_copy_34 ?_
      refine lv_iload hx hb dX0_copy_37 (lv_at hl 4 rfl) ?_
      refine lv_iload hx hb dX0_copy_39 (lv_at hl 5 rfl) ?_
      refine w_cpNull (a := (some h_sheets_x_r)) (b := none) (rest := []) ⟨hx, hb, hml.trans hl.1.symm, hts, hK, hX, hS, hP, hown, hts _ q512, hts _ q440, hts _ q439, hts _ q68, dX0_copy_41, Nat.le_of_ble_eq_true rfl, Nat.le_of_ble_eq_true rfl, Nat.le_of_ble_eq_true rfl, Nat.le_of_ble_eq_true rfl, Nat.le_of_ble_eq_true rfl⟩ (Or.inr rfl) (fun x_7 H hxo hP hS hz hk => ?_)
      obtain ⟨ce, hce, hcv, hcc⟩ := hxo
      refine wx_catch (cell := ce) hce (by rw [hcv]; rfl) [] ⟨18, 44, 47, 354⟩ [⟨18, 44, 52, 360⟩, ⟨18, 44, 57, 362⟩] hhd (fun _ _ z hz => by cases hz) (by decide) (by decide) hown (hts _ q734) (cT := ce.cls) hcc (vm_refl (args := #[]) (hK.n q756 rfl) hcc) ?_
      refine lv_astore (lv' := [(6, .ref x_7), (0, .ref h), (1, .int p1), (2, .int p2), (3, .int p3), (4, .int p4), (5, .int p5)]) hx hb dX0_copy_47 hl (by decide) rfl (fun ls hl => ?_)
      refine lv_bipush (v := (-11 : Int32)) hx hb dX0_copy_49 (by decide) ?_
      have hP9 := hP
      have hD9 := hD
      exact w_widen (k := 3) (n := 1010) (by first | exact Nat.le_of_ble_eq_true rfl | omega) (by first | exact Nat.le_of_ble_eq_true rfl | omega) (W.iret (v := (-11 : Int32)) hx hb hr (fun t ht hW => ⟨⟨(-11 : Int32), (), rfl, hw, by rw [ht]; exact hP9, hD9⟩, hS.F ht⟩) hS.2.2 dX0_copy_51)
    · replace hw := hw.2 c_4
      refine lv_iconst (v := (-1 : Int32)) hx hb dX0_copy_16 (by decide) ?_
      have hP9 := hP
      have hD9 := hD
      exact w_widen (k := 3) (n := 1010) (by first | exact Nat.le_of_ble_eq_true rfl | omega) (by first | exact Nat.le_of_ble_eq_true rfl | omega) (W.iret (v := (-1 : Int32)) hx hb hr (fun t ht hW => ⟨⟨(-1 : Int32), (), rfl, hw, by rw [ht]; exact hP9, hD9⟩, hS.F ht⟩) hS.2.2 dX0_copy_17)
/-! BattleBench.copy(IIIII)I -/
def wp_X0_copy_Ie (rn : Nat) (rw : Nat → Int32) (p1 : Int32) (p2 : Int32) (p3 : Int32) (p4 : Int32) (p5 : Int32) (Q : Int32 → ((Nat → Int32)) → Prop) : Prop :=
  wp_X0_isSheet  p1 (0 : Int32) (fun r_1 => (((r_1 = 0) → Q (-1 : Int32) rw) ∧ (¬ (r_1 = 0) → wp_X0_isSheet  p3 (0 : Int32) (fun r_3 => ((¬ (r_3 = 0) → (vp_in p1 4 ∧ (vp_in p3 4 ∧ ((cpOk p2 p4 p5 rn rn → ∀ f_9 : Nat → Int32, f_9 = va_cpy rw rw p2.toNatClampNeg p4.toNatClampNeg p5.toNatClampNeg → Q p5 f_9) ∧ (¬ cpOk p2 p4 p5 rn rn → (rn < 2147483648 ∧ rn < 2147483648 ∧ Q (-13 : Int32) rw)))))) ∧ ((r_3 = 0) → Q (-1 : Int32) rw))))))
set_option maxHeartbeats 4000000 in
theorem mt_X0_copy_Ie (l : Launch) (G : GT) (aS : Nat) (hfl : l.flags = pinnedFlags ++ [noTraceFlag]) (h h_kinds h_now h_fault h_tape h_got h_failing h_past h_aside h_best h_tried h_kept h_keptPast h_sheets h_sheets_x h_sheets_x_r : Nat) (shf : Nat → Option Nat) (sz : Nat) (taped : Int32) (reads : Int32) (undoMany : Int32) (keptMany : Int32) (isKept : Int32) (rn : Nat) (rw : Nat → Int32) (p1 : Int32) (p2 : Int32) (p3 : Int32) (p4 : Int32) (p5 : Int32)(hsh : shf p1.toNatClampNeg = some h_sheets_x) (hsh2 : shf p3.toNatClampNeg = some h_sheets_x) (Q : Int32 → ((Nat → Int32)) → Prop) (hw : wp_X0_copy_Ie rn rw p1 p2 p3 p4 p5 Q) : Met l yX0_copy (wsW_ yX0_copy cX0_copy 7 (some .int) [(18, 44, 47, 354), (18, 44, 52, 360), (18, 44, 57, 362)]) ({ frames := 9, cells := 3, slots := 1010, locals := 10248 } : Room) (va_Pc [.ref h, .int p1, .int p2, .int p3, .int p4, .int p5] (fun U => U.heap.size = sz ∧ va_P G.1 gCl [oc h 0 [.ref h_kinds, .ref h_now, .ref h_fault, .ref h_tape, .int taped, .int reads, .ref h_got, .ref h_failing, .ref h_past, .int undoMany, .ref h_aside, .ref h_best, .ref h_tried, .ref h_kept, .ref h_keptPast, .int keptMany, .int isKept, .ref h_sheets], arf G h_sheets 7 4 shf, oc h_sheets_x 8 [.ref h_sheets_x_r], ai G h_sheets_x_r rn rw] U.heap ∧ gK G U ∧ va_D (fun _ => True) [oc h 0 [.ref h_kinds, .ref h_now, .ref h_fault, .ref h_tape, .int taped, .int reads, .ref h_got, .ref h_failing, .ref h_past, .int undoMany, .ref h_aside, .ref h_best, .ref h_tried, .ref h_kept, .ref h_keptPast, .int keptMany, .int isKept, .ref h_sheets], arf G h_sheets 7 4 shf, oc h_sheets_x 8 [.ref h_sheets_x_r], ai G h_sheets_x_r rn rw] ∧ stS aS U)) ((fun A => (va_Qi (fun (r : Int32) (u : (Nat → Int32)) => Q r u) (fun u t => va_P G.1 gCl [oc h 0 [.ref h_kinds, .ref h_now, .ref h_fault, .ref h_tape, .int taped, .int reads, .ref h_got, .ref h_failing, .ref h_past, .int undoMany, .ref h_aside, .ref h_best, .ref h_tried, .ref h_kept, .ref h_keptPast, .int keptMany, .int isKept, .ref h_sheets], arf G h_sheets 7 4 shf, oc h_sheets_x 8 [.ref h_sheets_x_r], ai G h_sheets_x_r rn u] t.heap ∧ va_D A [oc h 0 [.ref h_kinds, .ref h_now, .ref h_fault, .ref h_tape, .int taped, .int reads, .ref h_got, .ref h_failing, .ref h_past, .int undoMany, .ref h_aside, .ref h_best, .ref h_tried, .ref h_kept, .ref h_keptPast, .int keptMany, .int isKept, .ref h_sheets], arf G h_sheets 7 4 shf, oc h_sheets_x 8 [.ref h_sheets_x_r], ai G h_sheets_x_r rn u]) A)) (va_A [oc h 0 [.ref h_kinds, .ref h_now, .ref h_fault, .ref h_tape, .int taped, .int reads, .ref h_got, .ref h_failing, .ref h_past, .int undoMany, .ref h_aside, .ref h_best, .ref h_tried, .ref h_kept, .ref h_keptPast, .int keptMany, .int isKept, .ref h_sheets], arf G h_sheets 7 4 shf, oc h_sheets_x 8 [.ref h_sheets_x_r], ai G h_sheets_x_r rn rw] sz)) 3 1010 (va_A [oc h 0 [.ref h_kinds, .ref h_now, .ref h_fault, .ref h_tape, .int taped, .int reads, .ref h_got, .ref h_failing, .ref h_past, .int undoMany, .ref h_aside, .ref h_best, .ref h_tried, .ref h_kept, .ref h_keptPast, .int keptMany, .int isKept, .ref h_sheets], arf G h_sheets 7 4 shf, oc h_sheets_x 8 [.ref h_sheets_x_r], ai G h_sheets_x_r rn rw] sz) := by
  refine va_MetW (hh := [(18, 44, 47, 354), (18, 44, 52, 360), (18, 44, 57, 362)]) (cc := cX0_copy) (maxL := 7) (ret := (some .int)) (by decide) rfl ?_
  intro p e s m args below meth c s₁ B hml hv
  obtain ⟨rfl, hsz, hP, hK, hD0, hst⟩ := hv
  have hx := B.exec
  have hb := B.bytes
  have hr := B.returns
  have hts := atoms_spec (ws := (wsW_ yX0_copy cX0_copy 7 (some .int) [(18, 44, 47, 354), (18, 44, 52, 360), (18, 44, 57, 362)])) B.pre
  have hts : ∀ w ∈ lw_all, w.before _ s = true := fun w h => hts w (List.mem_cons_of_mem _ h)
  have hown : s.vm.findClass RX0 = some m.cls := findClass_of_methodNamed B.named
  have hlocks := B.notSynchronized
  have hhd : c.exceptionTable.toList = [⟨18, 44, 47, 354⟩, ⟨18, 44, 52, 360⟩, ⟨18, 44, 57, 362⟩] := x_hand B (atoms_spec (ws := (wsW_ yX0_copy cX0_copy 7 (some .int) [(18, 44, 47, 354), (18, 44, 52, 360), (18, 44, 57, 362)])) B.pre _ List.mem_cons_self)
  subst hsz
  have hD := hD0.self (sz := s.heap.size)
  generalize hAe : va_A [oc h 0 [.ref h_kinds, .ref h_now, .ref h_fault, .ref h_tape, .int taped, .int reads, .ref h_got, .ref h_failing, .ref h_past, .int undoMany, .ref h_aside, .ref h_best, .ref h_tried, .ref h_kept, .ref h_keptPast, .int keptMany, .int isKept, .ref h_sheets], arf G h_sheets 7 4 shf, oc h_sheets_x 8 [.ref h_sheets_x_r], ai G h_sheets_x_r rn rw] s.heap.size = A at hD ⊢
  have hA : ∀ q : Nat, s.heap.size ≤ q → A q := fun q h => by rw [← hAe]; exact Or.inr h
  have hS : va_S A s.heap s.heap [] := va_S.rf
  have hX : XCx l aS s A := ⟨hfl, hst, fun q cell hq hc => va_A.ns hP (by rw [hAe]; exact hq) hc⟩
  have C : Cx p s m meth c cX0_copy 7 (some .int) RX0 ([.ref h, .int p1, .int p2, .int p3, .int p4, .int p5] : List Value).toArray G A := ⟨hx, hb, hr, hlocks, hml, hown, hts, hK, hA⟩
  have hl := lv_entry ([.ref h, .int p1, .int p2, .int p3, .int p4, .int p5]) (n := 7) (Nat.le_of_ble_eq_true rfl)
  rw [lg_entry_eq]
  generalize (lg_sl ([.ref h, .int p1, .int p2, .int p3, .int p4, .int p5]) ++ List.replicate (7 - (lg_sl ([.ref h, .int p1, .int p2, .int p3, .int p4, .int p5])).length) Slot.unset).toArray = ls at hl ⊢
  have hl : lv_has ls 7 [(0, .ref h), (1, .int p1), (2, .int p2), (3, .int p3), (4, .int p4), (5, .int p5)] := hl
  unfold wp_X0_copy_Ie at hw
  refine lv_iload_n hx hb dX0_copy_0 rfl (lv_at hl 1 rfl) ?_
  refine lv_iconst (v := (0 : Int32)) hx hb dX0_copy_1 (by decide) ?_
  have hPc := hP.sub (ws' := []) [] rfl
  have hDc := hD.sub (ws' := []) [] (by decide) rfl
  have hFc := va_free (wc := []) hD hS hA [] rfl
  refine va_calli (va_runS (As := [.int p1, .int (0 : Int32)]) (rest := []) ⟨hx, hb, hml, hown, hts⟩ (mt_X0_isSheet l G  s.heap.size  p1 (0 : Int32) _ hw) (va_cwS 2 hts (lw_S q648 q649 q54 q650) rfl rfl rfl (by decide +kernel) ⟨Nat.le_of_ble_eq_true rfl, Nat.le_of_ble_eq_true rfl⟩) ⟨fun a U g mk q => by obtain ⟨q0, q1, qP, qK, qD⟩ := q; exact ⟨q0, q1, qP, qK.call, qD⟩, fun U hU hW => ⟨rfl, by rw [hU], by rw [hU]; exact hPc, hK.warm hW, hDc.weaken (fun _ _ _ _ => trivial)⟩⟩ rfl rfl hl.1 rfl (lv_room (Nat.le_of_ble_eq_true rfl)) dX0_copy_2 ⟨Nat.le_of_ble_eq_true rfl, Nat.le_of_ble_eq_true rfl⟩) hS (fun q _ h => hFc q h) hFc (fun r_1 _ t H1 locs ht hvm hw hB hz1 hk1 hS => ?_)
  obtain ⟨hP1, hD1⟩ := hB
  rw [ht] at hP1
  obtain ⟨hP, hD⟩ := va_join (wr := [oc h 0 [.ref h_kinds, .ref h_now, .ref h_fault, .ref h_tape, .int taped, .int reads, .ref h_got, .ref h_failing, .ref h_past, .int undoMany, .ref h_aside, .ref h_best, .ref h_tried, .ref h_kept, .ref h_keptPast, .int keptMany, .int isKept, .ref h_sheets], arf G h_sheets 7 4 shf, oc h_sheets_x 8 [.ref h_sheets_x_r], ai G h_sheets_x_r rn rw]) (w1 := []) hP hD [] [0, 1, 2, 3] rfl rfl (by decide) (by decide) hk1 hFc hP1 hD1
  clear hPc hDc hFc hP1 hD1 hz1 hk1 hvm
  generalize H1 = H at hP hS ⊢
  have hP : va_P G.1 gCl [oc h 0 [.ref h_kinds, .ref h_now, .ref h_fault, .ref h_tape, .int taped, .int reads, .ref h_got, .ref h_failing, .ref h_past, .int undoMany, .ref h_aside, .ref h_best, .ref h_tried, .ref h_kept, .ref h_keptPast, .int keptMany, .int isKept, .ref h_sheets], arf G h_sheets 7 4 shf, oc h_sheets_x 8 [.ref h_sheets_x_r], ai G h_sheets_x_r rn rw] H := hP
  have hD : va_D A [oc h 0 [.ref h_kinds, .ref h_now, .ref h_fault, .ref h_tape, .int taped, .int reads, .ref h_got, .ref h_failing, .ref h_past, .int undoMany, .ref h_aside, .ref h_best, .ref h_tried, .ref h_kept, .ref h_keptPast, .int keptMany, .int isKept, .ref h_sheets], arf G h_sheets 7 4 shf, oc h_sheets_x 8 [.ref h_sheets_x_r], ai G h_sheets_x_r rn rw] := hD
  refine lv_if_eq (tgt := 16) hx hb dX0_copy_5 (by decide) (fun c_2 => ?_) (fun c_2 => ?_)
  · replace hw := hw.1 c_2
    refine lv_iconst (v := (-1 : Int32)) hx hb dX0_copy_16 (by decide) ?_
    have hP9 := hP
    have hD9 := hD
    exact w_widen (k := 3) (n := 1010) (by first | exact Nat.le_of_ble_eq_true rfl | omega) (by first | exact Nat.le_of_ble_eq_true rfl | omega) (W.iret (v := (-1 : Int32)) hx hb hr (fun t ht hW => ⟨⟨(-1 : Int32), rw, rfl, hw, by rw [ht]; exact hP9, hD9⟩, hS.F ht⟩) hS.2.2 dX0_copy_17)
  · replace hw := hw.2 c_2
    refine lv_iload_n hx hb dX0_copy_8 rfl (lv_at hl 3 rfl) ?_
    refine lv_iconst (v := (0 : Int32)) hx hb dX0_copy_9 (by decide) ?_
    have hPc := hP.sub (ws' := []) [] rfl
    have hDc := hD.sub (ws' := []) [] (by decide) rfl
    have hFc := va_free (wc := []) hD hS hA [] rfl
    refine va_calli (va_runS (As := [.int p3, .int (0 : Int32)]) (rest := []) ⟨hx, hb, hml, hown, hts⟩ (mt_X0_isSheet l G  H.size  p3 (0 : Int32) _ hw) (va_cwS 2 hts (lw_S q648 q649 q54 q650) rfl rfl rfl (by decide +kernel) ⟨Nat.le_of_ble_eq_true rfl, Nat.le_of_ble_eq_true rfl⟩) ⟨fun a U g mk q => by obtain ⟨q0, q1, qP, qK, qD⟩ := q; exact ⟨q0, q1, qP, qK.call, qD⟩, fun U hU hW => ⟨rfl, by rw [hU], by rw [hU]; exact hPc, hK.warm hW, hDc.weaken (fun _ _ _ _ => trivial)⟩⟩ rfl rfl hl.1 rfl (lv_room (Nat.le_of_ble_eq_true rfl)) dX0_copy_10 ⟨Nat.le_of_ble_eq_true rfl, Nat.le_of_ble_eq_true rfl⟩) hS (fun q _ h => hFc q h) hFc (fun r_3 _ t H1 locs ht hvm hw hB hz1 hk1 hS => ?_)
    obtain ⟨hP1, hD1⟩ := hB
    rw [ht] at hP1
    obtain ⟨hP, hD⟩ := va_join (wr := [oc h 0 [.ref h_kinds, .ref h_now, .ref h_fault, .ref h_tape, .int taped, .int reads, .ref h_got, .ref h_failing, .ref h_past, .int undoMany, .ref h_aside, .ref h_best, .ref h_tried, .ref h_kept, .ref h_keptPast, .int keptMany, .int isKept, .ref h_sheets], arf G h_sheets 7 4 shf, oc h_sheets_x 8 [.ref h_sheets_x_r], ai G h_sheets_x_r rn rw]) (w1 := []) hP hD [] [0, 1, 2, 3] rfl rfl (by decide) (by decide) hk1 hFc hP1 hD1
    clear hPc hDc hFc hP1 hD1 hz1 hk1 hvm
    generalize H1 = H at hP hS ⊢
    have hP : va_P G.1 gCl [oc h 0 [.ref h_kinds, .ref h_now, .ref h_fault, .ref h_tape, .int taped, .int reads, .ref h_got, .ref h_failing, .ref h_past, .int undoMany, .ref h_aside, .ref h_best, .ref h_tried, .ref h_kept, .ref h_keptPast, .int keptMany, .int isKept, .ref h_sheets], arf G h_sheets 7 4 shf, oc h_sheets_x 8 [.ref h_sheets_x_r], ai G h_sheets_x_r rn rw] H := hP
    have hD : va_D A [oc h 0 [.ref h_kinds, .ref h_now, .ref h_fault, .ref h_tape, .int taped, .int reads, .ref h_got, .ref h_failing, .ref h_past, .int undoMany, .ref h_aside, .ref h_best, .ref h_tried, .ref h_kept, .ref h_keptPast, .int keptMany, .int isKept, .ref h_sheets], arf G h_sheets 7 4 shf, oc h_sheets_x 8 [.ref h_sheets_x_r], ai G h_sheets_x_r rn rw] := hD
    refine lv_if_ne (tgt := 18) hx hb dX0_copy_13 (by decide) (fun c_4 => ?_) (fun c_4 => ?_)
    · replace hw := hw.1 c_4
      refine lv_aload_n hx hb dX0_copy_18 rfl (lv_at hl 0 rfl) ?_
      refine va_get (D := G.1) (ci := 0) (v := .ref h_sheets) (C := RX0) (T := TX0) (N := 18) hx hb hts in_X0 hown hK.1 hP 0 rfl rfl 17 (by decide) (hts _ q273) (fun _ h9 => h9) rfl dX0_copy_19 ?_
      refine lv_iload_n hx hb dX0_copy_22 rfl (lv_at hl 1 rfl) ?_
      obtain ⟨i_5, hw⟩ := hw
      refine z_aaldS hx hb hK.1 hP 1 7 rfl rfl i_5 dX0_copy_23 hsh ?_
      refine va_getN (D := G.1) (ci := 8) (v := .ref h_sheets_x_r) (C := RX8) (T := TX8) (N := 1) hx hb hts in_X8 hown hK.1 hP 2 rfl rfl 0 (by decide) (hK.n q251 rfl) (fun _ h9 => h9) rfl dX0_copy_24 ?_
      refine lv_iload_n hx hb dX0_copy_27 rfl (lv_at hl 2 rfl) ?_
      refine lv_aload_n hx hb dX0_copy_28 rfl (lv_at hl 0 rfl) ?_
      refine va_get (D := G.1) (ci := 0) (v := .ref h_sheets) (C := RX0) (T := TX0) (N := 18) hx hb hts in_X0 hown hK.1 hP 0 rfl rfl 17 (by decide) (hts _ q273) (fun _ h9 => h9) rfl dX0_copy_29 ?_
      refine lv_iload_n hx hb dX0_copy_32 rfl (lv_at hl 3 rfl) ?_
      obtain ⟨i_6, hw⟩ := hw
      refine z_aaldS hx hb hK.1 hP 1 7 rfl rfl i_6 dX0_copy_33 hsh2 ?_
      refine va_getN (D := G.1) (ci := 8) (v := .ref h_sheets_x_r) (C := RX8) (T := TX8) (N := 1) hx hb hts in_X8 hown hK.1 hP 2 rfl rfl 0 (by decide) (hK.n q251 rfl) (fun _ h9 => h9) rfl dX0_copy_34 ?_
      refine lv_iload hx hb dX0_copy_37 (lv_at hl 4 rfl) ?_
      refine lv_iload hx hb dX0_copy_39 (lv_at hl 5 rfl) ?_
      by_cases c_8 : cpOk p2 p4 p5 rn rn
      · replace hw := hw.1 c_8
        refine z_cpI hx hb (hml.trans hl.1.symm) hown (hts _ q512) (hts _ q440) (hts _ q439) (hts _ q68) hK.1 hP hD hS 3 3 0 rfl rfl rfl rfl rfl c_8 (fun i _ => rfl) (Nat.le_of_ble_eq_true rfl) (Nat.le_of_ble_eq_true rfl) dX0_copy_41 (fun f_9 ef_9 H locs hP hD hS => ?_)
        replace hw := hw f_9 ef_9
        have hP : va_P G.1 gCl [oc h 0 [.ref h_kinds, .ref h_now, .ref h_fault, .ref h_tape, .int taped, .int reads, .ref h_got, .ref h_failing, .ref h_past, .int undoMany, .ref h_aside, .ref h_best, .ref h_tried, .ref h_kept, .ref h_keptPast, .int keptMany, .int isKept, .ref h_sheets], arf G h_sheets 7 4 shf, oc h_sheets_x 8 [.ref h_sheets_x_r], ai G h_sheets_x_r rn f_9] H := hP
        have hD : va_D A [oc h 0 [.ref h_kinds, .ref h_now, .ref h_fault, .ref h_tape, .int taped, .int reads, .ref h_got, .ref h_failing, .ref h_past, .int undoMany, .ref h_aside, .ref h_best, .ref h_tried, .ref h_kept, .ref h_keptPast, .int keptMany, .int isKept, .ref h_sheets], arf G h_sheets 7 4 shf, oc h_sheets_x 8 [.ref h_sheets_x_r], ai G h_sheets_x_r rn f_9] := hD
        refine lv_goto (tgt := 62) hx hb dX0_copy_44 (by decide) ?_
        refine lv_iload hx hb dX0_copy_62 (lv_at hl 5 rfl) ?_
        have hP9 := hP
        have hD9 := hD
        exact w_widen (k := 3) (n := 1010) (by first | exact Nat.le_of_ble_eq_true rfl | omega) (by first | exact Nat.le_of_ble_eq_true rfl | omega) (W.iret (v := p5) hx hb hr (fun t ht hW => ⟨⟨p5, f_9, rfl, hw, by rw [ht]; exact hP9, hD9⟩, hS.F ht⟩) hS.2.2 dX0_copy_64)
      · obtain ⟨h31, h32, hw⟩ := hw.2 c_8
        refine w_cpOut (rest := []) ⟨hx, hb, hml.trans hl.1.symm, hts, hK, hX, hS, hP, hown, hts _ q512, hts _ q440, hts _ q439, hts _ q68, dX0_copy_41, Nat.le_of_ble_eq_true rfl, Nat.le_of_ble_eq_true rfl, Nat.le_of_ble_eq_true rfl, Nat.le_of_ble_eq_true rfl, Nat.le_of_ble_eq_true rfl⟩ 3 3 0 0 rfl rfl rfl rfl h31 h32 c_8 (fun x_7 H hxo hP hS hz hk => ?_)
        obtain ⟨ce, hce, hcv, hcc⟩ := hxo
        obtain ⟨c1, cT, hc1, hcT, hfit⟩ := Cond.castable_spec (args := #[]) (hK.n (args := #[]) q1127 rfl)
        cases hc1.symm.trans hcc
        refine wx_catch (cell := ce) hce (by rw [hcv]; rfl) [⟨18, 44, 47, 354⟩, ⟨18, 44, 52, 360⟩] ⟨18, 44, 57, 362⟩ [] hhd (fun pl hpl z hz => (List.forall_mem_cons.mpr ⟨x_pass (z := ⟨18, 44, 47, 354⟩) (by decide) (by decide) hown (hts _ q734) (hK.2.2 ("java/lang/ArrayIndexOutOfBoundsException", "java/lang/NullPointerException") (by decide +kernel)) hcc pl hpl, (List.forall_mem_cons.mpr ⟨x_pass (z := ⟨18, 44, 52, 360⟩) (by decide) (by decide) hown (hts _ q796) (hK.2.2 ("java/lang/ArrayIndexOutOfBoundsException", "java/lang/ArrayStoreException") (by decide +kernel)) hcc pl hpl, fun _ h9 => absurd h9 List.not_mem_nil⟩)⟩) z hz) (by decide) (by decide) hown (hts _ q810) (cT := cT) hcT hfit ?_
        refine lv_astore (lv' := [(6, .ref x_7), (0, .ref h), (1, .int p1), (2, .int p2), (3, .int p3), (4, .int p4), (5, .int p5)]) hx hb dX0_copy_57 hl (by decide) rfl (fun ls hl => ?_)
        refine lv_bipush (v := (-13 : Int32)) hx hb dX0_copy_59 (by decide) ?_
        have hP9 := hP
        have hD9 := hD
        exact w_widen (k := 3) (n := 1010) (by first | exact Nat.le_of_ble_eq_true rfl | omega) (by first | exact Nat.le_of_ble_eq_true rfl | omega) (W.iret (v := (-13 : Int32)) hx hb hr (fun t ht hW => ⟨⟨(-13 : Int32), rw, rfl, hw, by rw [ht]; exact hP9, hD9⟩, hS.F ht⟩) hS.2.2 dX0_copy_61)
    · replace hw := hw.2 c_4
      refine lv_iconst (v := (-1 : Int32)) hx hb dX0_copy_16 (by decide) ?_
      have hP9 := hP
      have hD9 := hD
      exact w_widen (k := 3) (n := 1010) (by first | exact Nat.le_of_ble_eq_true rfl | omega) (by first | exact Nat.le_of_ble_eq_true rfl | omega) (W.iret (v := (-1 : Int32)) hx hb hr (fun t ht hW => ⟨⟨(-1 : Int32), rw, rfl, hw, by rw [ht]; exact hP9, hD9⟩, hS.F ht⟩) hS.2.2 dX0_copy_17)
/-! BattleBench.copy(IIIII)I -/
def wp_X0_copy_JB (rn : Nat) (rw : Nat → Int64) (rn2 : Nat) (rw2 : Nat → Int32) (p1 : Int32) (p2 : Int32) (p3 : Int32) (p4 : Int32) (p5 : Int32) (Q : Int32 → Prop) : Prop :=
  wp_X0_isSheet  p1 (0 : Int32) (fun r_1 => (((r_1 = 0) → Q (-1 : Int32)) ∧ (¬ (r_1 = 0) → wp_X0_isSheet  p3 (0 : Int32) (fun r_3 => ((¬ (r_3 = 0) → (vp_in p1 4 ∧ (vp_in p3 4 ∧ Q (-12 : Int32)))) ∧ ((r_3 = 0) → Q (-1 : Int32)))))))
set_option maxHeartbeats 4000000 in
theorem mt_X0_copy_JB (l : Launch) (G : GT) (aS : Nat) (hfl : l.flags = pinnedFlags ++ [noTraceFlag]) (h h_kinds h_now h_fault h_tape h_got h_failing h_past h_aside h_best h_tried h_kept h_keptPast h_sheets h_sheets_x h_sheets_x_r h_sheets_y h_sheets_y_r : Nat) (shf : Nat → Option Nat) (sz : Nat) (taped : Int32) (reads : Int32) (undoMany : Int32) (keptMany : Int32) (isKept : Int32) (rn : Nat) (rw : Nat → Int64) (rn2 : Nat) (rw2 : Nat → Int32) (p1 : Int32) (p2 : Int32) (p3 : Int32) (p4 : Int32) (p5 : Int32)(hsh : shf p1.toNatClampNeg = some h_sheets_x) (hsh2 : shf p3.toNatClampNeg = some h_sheets_y) (Q : Int32 → Prop) (hw : wp_X0_copy_JB rn rw rn2 rw2 p1 p2 p3 p4 p5 Q) : Met l yX0_copy (wsW_ yX0_copy cX0_copy 7 (some .int) [(18, 44, 47, 354), (18, 44, 52, 360), (18, 44, 57, 362)]) ({ frames := 9, cells := 3, slots := 1010, locals := 10248 } : Room) (va_Pc [.ref h, .int p1, .int p2, .int p3, .int p4, .int p5] (fun U => U.heap.size = sz ∧ va_P G.1 gCl [oc h 0 [.ref h_kinds, .ref h_now, .ref h_fault, .ref h_tape, .int taped, .int reads, .ref h_got, .ref h_failing, .ref h_past, .int undoMany, .ref h_aside, .ref h_best, .ref h_tried, .ref h_kept, .ref h_keptPast, .int keptMany, .int isKept, .ref h_sheets], arf G h_sheets 7 4 shf, oc h_sheets_x 8 [.ref h_sheets_x_r], al G h_sheets_x_r rn rw, oc h_sheets_y 8 [.ref h_sheets_y_r], ay G h_sheets_y_r rn2 rw2] U.heap ∧ gK G U ∧ va_D (fun _ => True) [oc h 0 [.ref h_kinds, .ref h_now, .ref h_fault, .ref h_tape, .int taped, .int reads, .ref h_got, .ref h_failing, .ref h_past, .int undoMany, .ref h_aside, .ref h_best, .ref h_tried, .ref h_kept, .ref h_keptPast, .int keptMany, .int isKept, .ref h_sheets], arf G h_sheets 7 4 shf, oc h_sheets_x 8 [.ref h_sheets_x_r], al G h_sheets_x_r rn rw, oc h_sheets_y 8 [.ref h_sheets_y_r], ay G h_sheets_y_r rn2 rw2] ∧ stS aS U)) ((fun A => (va_Qi (fun (r : Int32) (u : Unit) => Q r ) (fun u t => va_P G.1 gCl [oc h 0 [.ref h_kinds, .ref h_now, .ref h_fault, .ref h_tape, .int taped, .int reads, .ref h_got, .ref h_failing, .ref h_past, .int undoMany, .ref h_aside, .ref h_best, .ref h_tried, .ref h_kept, .ref h_keptPast, .int keptMany, .int isKept, .ref h_sheets], arf G h_sheets 7 4 shf, oc h_sheets_x 8 [.ref h_sheets_x_r], al G h_sheets_x_r rn rw, oc h_sheets_y 8 [.ref h_sheets_y_r], ay G h_sheets_y_r rn2 rw2] t.heap ∧ va_D A [oc h 0 [.ref h_kinds, .ref h_now, .ref h_fault, .ref h_tape, .int taped, .int reads, .ref h_got, .ref h_failing, .ref h_past, .int undoMany, .ref h_aside, .ref h_best, .ref h_tried, .ref h_kept, .ref h_keptPast, .int keptMany, .int isKept, .ref h_sheets], arf G h_sheets 7 4 shf, oc h_sheets_x 8 [.ref h_sheets_x_r], al G h_sheets_x_r rn rw, oc h_sheets_y 8 [.ref h_sheets_y_r], ay G h_sheets_y_r rn2 rw2]) A)) (va_A [oc h 0 [.ref h_kinds, .ref h_now, .ref h_fault, .ref h_tape, .int taped, .int reads, .ref h_got, .ref h_failing, .ref h_past, .int undoMany, .ref h_aside, .ref h_best, .ref h_tried, .ref h_kept, .ref h_keptPast, .int keptMany, .int isKept, .ref h_sheets], arf G h_sheets 7 4 shf, oc h_sheets_x 8 [.ref h_sheets_x_r], al G h_sheets_x_r rn rw, oc h_sheets_y 8 [.ref h_sheets_y_r], ay G h_sheets_y_r rn2 rw2] sz)) 3 1010 (va_A [oc h 0 [.ref h_kinds, .ref h_now, .ref h_fault, .ref h_tape, .int taped, .int reads, .ref h_got, .ref h_failing, .ref h_past, .int undoMany, .ref h_aside, .ref h_best, .ref h_tried, .ref h_kept, .ref h_keptPast, .int keptMany, .int isKept, .ref h_sheets], arf G h_sheets 7 4 shf, oc h_sheets_x 8 [.ref h_sheets_x_r], al G h_sheets_x_r rn rw, oc h_sheets_y 8 [.ref h_sheets_y_r], ay G h_sheets_y_r rn2 rw2] sz) := by
  refine va_MetW (hh := [(18, 44, 47, 354), (18, 44, 52, 360), (18, 44, 57, 362)]) (cc := cX0_copy) (maxL := 7) (ret := (some .int)) (by decide) rfl ?_
  intro p e s m args below meth c s₁ B hml hv
  obtain ⟨rfl, hsz, hP, hK, hD0, hst⟩ := hv
  have hx := B.exec
  have hb := B.bytes
  have hr := B.returns
  have hts := atoms_spec (ws := (wsW_ yX0_copy cX0_copy 7 (some .int) [(18, 44, 47, 354), (18, 44, 52, 360), (18, 44, 57, 362)])) B.pre
  have hts : ∀ w ∈ lw_all, w.before _ s = true := fun w h => hts w (List.mem_cons_of_mem _ h)
  have hown : s.vm.findClass RX0 = some m.cls := findClass_of_methodNamed B.named
  have hlocks := B.notSynchronized
  have hhd : c.exceptionTable.toList = [⟨18, 44, 47, 354⟩, ⟨18, 44, 52, 360⟩, ⟨18, 44, 57, 362⟩] := x_hand B (atoms_spec (ws := (wsW_ yX0_copy cX0_copy 7 (some .int) [(18, 44, 47, 354), (18, 44, 52, 360), (18, 44, 57, 362)])) B.pre _ List.mem_cons_self)
  subst hsz
  have hD := hD0.self (sz := s.heap.size)
  generalize hAe : va_A [oc h 0 [.ref h_kinds, .ref h_now, .ref h_fault, .ref h_tape, .int taped, .int reads, .ref h_got, .ref h_failing, .ref h_past, .int undoMany, .ref h_aside, .ref h_best, .ref h_tried, .ref h_kept, .ref h_keptPast, .int keptMany, .int isKept, .ref h_sheets], arf G h_sheets 7 4 shf, oc h_sheets_x 8 [.ref h_sheets_x_r], al G h_sheets_x_r rn rw, oc h_sheets_y 8 [.ref h_sheets_y_r], ay G h_sheets_y_r rn2 rw2] s.heap.size = A at hD ⊢
  have hA : ∀ q : Nat, s.heap.size ≤ q → A q := fun q h => by rw [← hAe]; exact Or.inr h
  have hS : va_S A s.heap s.heap [] := va_S.rf
  have hX : XCx l aS s A := ⟨hfl, hst, fun q cell hq hc => va_A.ns hP (by rw [hAe]; exact hq) hc⟩
  have C : Cx p s m meth c cX0_copy 7 (some .int) RX0 ([.ref h, .int p1, .int p2, .int p3, .int p4, .int p5] : List Value).toArray G A := ⟨hx, hb, hr, hlocks, hml, hown, hts, hK, hA⟩
  have hl := lv_entry ([.ref h, .int p1, .int p2, .int p3, .int p4, .int p5]) (n := 7) (Nat.le_of_ble_eq_true rfl)
  rw [lg_entry_eq]
  generalize (lg_sl ([.ref h, .int p1, .int p2, .int p3, .int p4, .int p5]) ++ List.replicate (7 - (lg_sl ([.ref h, .int p1, .int p2, .int p3, .int p4, .int p5])).length) Slot.unset).toArray = ls at hl ⊢
  have hl : lv_has ls 7 [(0, .ref h), (1, .int p1), (2, .int p2), (3, .int p3), (4, .int p4), (5, .int p5)] := hl
  unfold wp_X0_copy_JB at hw
  refine lv_iload_n hx hb dX0_copy_0 rfl (lv_at hl 1 rfl) ?_
  refine lv_iconst (v := (0 : Int32)) hx hb dX0_copy_1 (by decide) ?_
  have hPc := hP.sub (ws' := []) [] rfl
  have hDc := hD.sub (ws' := []) [] (by decide) rfl
  have hFc := va_free (wc := []) hD hS hA [] rfl
  refine va_calli (va_runS (As := [.int p1, .int (0 : Int32)]) (rest := []) ⟨hx, hb, hml, hown, hts⟩ (mt_X0_isSheet l G  s.heap.size  p1 (0 : Int32) _ hw) (va_cwS 2 hts (lw_S q648 q649 q54 q650) rfl rfl rfl (by decide +kernel) ⟨Nat.le_of_ble_eq_true rfl, Nat.le_of_ble_eq_true rfl⟩) ⟨fun a U g mk q => by obtain ⟨q0, q1, qP, qK, qD⟩ := q; exact ⟨q0, q1, qP, qK.call, qD⟩, fun U hU hW => ⟨rfl, by rw [hU], by rw [hU]; exact hPc, hK.warm hW, hDc.weaken (fun _ _ _ _ => trivial)⟩⟩ rfl rfl hl.1 rfl (lv_room (Nat.le_of_ble_eq_true rfl)) dX0_copy_2 ⟨Nat.le_of_ble_eq_true rfl, Nat.le_of_ble_eq_true rfl⟩) hS (fun q _ h => hFc q h) hFc (fun r_1 _ t H1 locs ht hvm hw hB hz1 hk1 hS => ?_)
  obtain ⟨hP1, hD1⟩ := hB
  rw [ht] at hP1
  obtain ⟨hP, hD⟩ := va_join (wr := [oc h 0 [.ref h_kinds, .ref h_now, .ref h_fault, .ref h_tape, .int taped, .int reads, .ref h_got, .ref h_failing, .ref h_past, .int undoMany, .ref h_aside, .ref h_best, .ref h_tried, .ref h_kept, .ref h_keptPast, .int keptMany, .int isKept, .ref h_sheets], arf G h_sheets 7 4 shf, oc h_sheets_x 8 [.ref h_sheets_x_r], al G h_sheets_x_r rn rw, oc h_sheets_y 8 [.ref h_sheets_y_r], ay G h_sheets_y_r rn2 rw2]) (w1 := []) hP hD [] [0, 1, 2, 3, 4, 5] rfl rfl (by decide) (by decide) hk1 hFc hP1 hD1
  clear hPc hDc hFc hP1 hD1 hz1 hk1 hvm
  generalize H1 = H at hP hS ⊢
  have hP : va_P G.1 gCl [oc h 0 [.ref h_kinds, .ref h_now, .ref h_fault, .ref h_tape, .int taped, .int reads, .ref h_got, .ref h_failing, .ref h_past, .int undoMany, .ref h_aside, .ref h_best, .ref h_tried, .ref h_kept, .ref h_keptPast, .int keptMany, .int isKept, .ref h_sheets], arf G h_sheets 7 4 shf, oc h_sheets_x 8 [.ref h_sheets_x_r], al G h_sheets_x_r rn rw, oc h_sheets_y 8 [.ref h_sheets_y_r], ay G h_sheets_y_r rn2 rw2] H := hP
  have hD : va_D A [oc h 0 [.ref h_kinds, .ref h_now, .ref h_fault, .ref h_tape, .int taped, .int reads, .ref h_got, .ref h_failing, .ref h_past, .int undoMany, .ref h_aside, .ref h_best, .ref h_tried, .ref h_kept, .ref h_keptPast, .int keptMany, .int isKept, .ref h_sheets], arf G h_sheets 7 4 shf, oc h_sheets_x 8 [.ref h_sheets_x_r], al G h_sheets_x_r rn rw, oc h_sheets_y 8 [.ref h_sheets_y_r], ay G h_sheets_y_r rn2 rw2] := hD
  refine lv_if_eq (tgt := 16) hx hb dX0_copy_5 (by decide) (fun c_2 => ?_) (fun c_2 => ?_)
  · replace hw := hw.1 c_2
    refine lv_iconst (v := (-1 : Int32)) hx hb dX0_copy_16 (by decide) ?_
    have hP9 := hP
    have hD9 := hD
    exact w_widen (k := 3) (n := 1010) (by first | exact Nat.le_of_ble_eq_true rfl | omega) (by first | exact Nat.le_of_ble_eq_true rfl | omega) (W.iret (v := (-1 : Int32)) hx hb hr (fun t ht hW => ⟨⟨(-1 : Int32), (), rfl, hw, by rw [ht]; exact hP9, hD9⟩, hS.F ht⟩) hS.2.2 dX0_copy_17)
  · replace hw := hw.2 c_2
    refine lv_iload_n hx hb dX0_copy_8 rfl (lv_at hl 3 rfl) ?_
    refine lv_iconst (v := (0 : Int32)) hx hb dX0_copy_9 (by decide) ?_
    have hPc := hP.sub (ws' := []) [] rfl
    have hDc := hD.sub (ws' := []) [] (by decide) rfl
    have hFc := va_free (wc := []) hD hS hA [] rfl
    refine va_calli (va_runS (As := [.int p3, .int (0 : Int32)]) (rest := []) ⟨hx, hb, hml, hown, hts⟩ (mt_X0_isSheet l G  H.size  p3 (0 : Int32) _ hw) (va_cwS 2 hts (lw_S q648 q649 q54 q650) rfl rfl rfl (by decide +kernel) ⟨Nat.le_of_ble_eq_true rfl, Nat.le_of_ble_eq_true rfl⟩) ⟨fun a U g mk q => by obtain ⟨q0, q1, qP, qK, qD⟩ := q; exact ⟨q0, q1, qP, qK.call, qD⟩, fun U hU hW => ⟨rfl, by rw [hU], by rw [hU]; exact hPc, hK.warm hW, hDc.weaken (fun _ _ _ _ => trivial)⟩⟩ rfl rfl hl.1 rfl (lv_room (Nat.le_of_ble_eq_true rfl)) dX0_copy_10 ⟨Nat.le_of_ble_eq_true rfl, Nat.le_of_ble_eq_true rfl⟩) hS (fun q _ h => hFc q h) hFc (fun r_3 _ t H1 locs ht hvm hw hB hz1 hk1 hS => ?_)
    obtain ⟨hP1, hD1⟩ := hB
    rw [ht] at hP1
    obtain ⟨hP, hD⟩ := va_join (wr := [oc h 0 [.ref h_kinds, .ref h_now, .ref h_fault, .ref h_tape, .int taped, .int reads, .ref h_got, .ref h_failing, .ref h_past, .int undoMany, .ref h_aside, .ref h_best, .ref h_tried, .ref h_kept, .ref h_keptPast, .int keptMany, .int isKept, .ref h_sheets], arf G h_sheets 7 4 shf, oc h_sheets_x 8 [.ref h_sheets_x_r], al G h_sheets_x_r rn rw, oc h_sheets_y 8 [.ref h_sheets_y_r], ay G h_sheets_y_r rn2 rw2]) (w1 := []) hP hD [] [0, 1, 2, 3, 4, 5] rfl rfl (by decide) (by decide) hk1 hFc hP1 hD1
    clear hPc hDc hFc hP1 hD1 hz1 hk1 hvm
    generalize H1 = H at hP hS ⊢
    have hP : va_P G.1 gCl [oc h 0 [.ref h_kinds, .ref h_now, .ref h_fault, .ref h_tape, .int taped, .int reads, .ref h_got, .ref h_failing, .ref h_past, .int undoMany, .ref h_aside, .ref h_best, .ref h_tried, .ref h_kept, .ref h_keptPast, .int keptMany, .int isKept, .ref h_sheets], arf G h_sheets 7 4 shf, oc h_sheets_x 8 [.ref h_sheets_x_r], al G h_sheets_x_r rn rw, oc h_sheets_y 8 [.ref h_sheets_y_r], ay G h_sheets_y_r rn2 rw2] H := hP
    have hD : va_D A [oc h 0 [.ref h_kinds, .ref h_now, .ref h_fault, .ref h_tape, .int taped, .int reads, .ref h_got, .ref h_failing, .ref h_past, .int undoMany, .ref h_aside, .ref h_best, .ref h_tried, .ref h_kept, .ref h_keptPast, .int keptMany, .int isKept, .ref h_sheets], arf G h_sheets 7 4 shf, oc h_sheets_x 8 [.ref h_sheets_x_r], al G h_sheets_x_r rn rw, oc h_sheets_y 8 [.ref h_sheets_y_r], ay G h_sheets_y_r rn2 rw2] := hD
    refine lv_if_ne (tgt := 18) hx hb dX0_copy_13 (by decide) (fun c_4 => ?_) (fun c_4 => ?_)
    · replace hw := hw.1 c_4
      refine lv_aload_n hx hb dX0_copy_18 rfl (lv_at hl 0 rfl) ?_
      refine va_get (D := G.1) (ci := 0) (v := .ref h_sheets) (C := RX0) (T := TX0) (N := 18) hx hb hts in_X0 hown hK.1 hP 0 rfl rfl 17 (by decide) (hts _ q273) (fun _ h9 => h9) rfl dX0_copy_19 ?_
      refine lv_iload_n hx hb dX0_copy_22 rfl (lv_at hl 1 rfl) ?_
      obtain ⟨i_5, hw⟩ := hw
      refine z_aaldS hx hb hK.1 hP 1 7 rfl rfl i_5 dX0_copy_23 hsh ?_
      refine va_getN (D := G.1) (ci := 8) (v := .ref h_sheets_x_r) (C := RX8) (T := TX8) (N := 1) hx hb hts in_X8 hown hK.1 hP 2 rfl rfl 0 (by decide) (hK.n q251 rfl) (fun _ h9 => h9) rfl dX0_copy_24 ?_
      refine lv_iload_n hx hb dX0_copy_27 rfl (lv_at hl 2 rfl) ?_
      refine lv_aload_n hx hb dX0_copy_28 rfl (lv_at hl 0 rfl) ?_
      refine va_get (D := G.1) (ci := 0) (v := .ref h_sheets) (C := RX0) (T := TX0) (N := 18) hx hb hts in_X0 hown hK.1 hP 0 rfl rfl 17 (by decide) (hts _ q273) (fun _ h9 => h9) rfl dX0_copy_29 ?_
      refine lv_iload_n hx hb dX0_copy_32 rfl (lv_at hl 3 rfl) ?_
      obtain ⟨i_6, hw⟩ := hw
      refine z_aaldS hx hb hK.1 hP 1 7 rfl rfl i_6 dX0_copy_33 hsh2 ?_
      refine va_getN (D := G.1) (ci := 8) (v := .ref h_sheets_y_r) (C := RX8) (T := TX8) (N := 1) hx hb hts in_X8 hown hK.1 hP 4 rfl rfl 0 (by decide) (hK.n q251 rfl) (fun _ h9 => h9) rfl dX0_copy_34 ?_
      refine lv_iload hx hb dX0_copy_37 (lv_at hl 4 rfl) ?_
      refine lv_iload hx hb dX0_copy_39 (lv_at hl 5 rfl) ?_
      refine w_cpType (rest := []) ⟨hx, hb, hml.trans hl.1.symm, hts, hK, hX, hS, hP, hown, hts _ q512, hts _ q440, hts _ q439, hts _ q68, dX0_copy_41, Nat.le_of_ble_eq_true rfl, Nat.le_of_ble_eq_true rfl, Nat.le_of_ble_eq_true rfl, Nat.le_of_ble_eq_true rfl, Nat.le_of_ble_eq_true rfl⟩ 3 5 1 3 rfl rfl rfl rfl (by decide) (fun x_7 H hxo hP hS hz hk => ?_)
      obtain ⟨ce, hce, hcv, hcc⟩ := hxo
      refine wx_catch (cell := ce) hce (by rw [hcv]; rfl) [⟨18, 44, 47, 354⟩] ⟨18, 44, 52, 360⟩ [⟨18, 44, 57, 362⟩] hhd (fun pl hpl z hz => (List.forall_mem_cons.mpr ⟨x_pass (z := ⟨18, 44, 47, 354⟩) (by decide) (by decide) hown (hts _ q734) (hK.2.2 ("java/lang/ArrayStoreException", "java/lang/NullPointerException") (by decide +kernel)) hcc pl hpl, fun _ h9 => absurd h9 List.not_mem_nil⟩) z hz) (by decide) (by decide) hown (hts _ q796) (cT := ce.cls) hcc (vm_refl (args := #[]) (hK.n q808 rfl) hcc) ?_
      refine lv_astore (lv' := [(6, .ref x_7), (0, .ref h), (1, .int p1), (2, .int p2), (3, .int p3), (4, .int p4), (5, .int p5)]) hx hb dX0_copy_52 hl (by decide) rfl (fun ls hl => ?_)
      refine lv_bipush (v := (-12 : Int32)) hx hb dX0_copy_54 (by decide) ?_
      have hP9 := hP
      have hD9 := hD
      exact w_widen (k := 3) (n := 1010) (by first | exact Nat.le_of_ble_eq_true rfl | omega) (by first | exact Nat.le_of_ble_eq_true rfl | omega) (W.iret (v := (-12 : Int32)) hx hb hr (fun t ht hW => ⟨⟨(-12 : Int32), (), rfl, hw, by rw [ht]; exact hP9, hD9⟩, hS.F ht⟩) hS.2.2 dX0_copy_56)
    · replace hw := hw.2 c_4
      refine lv_iconst (v := (-1 : Int32)) hx hb dX0_copy_16 (by decide) ?_
      have hP9 := hP
      have hD9 := hD
      exact w_widen (k := 3) (n := 1010) (by first | exact Nat.le_of_ble_eq_true rfl | omega) (by first | exact Nat.le_of_ble_eq_true rfl | omega) (W.iret (v := (-1 : Int32)) hx hb hr (fun t ht hW => ⟨⟨(-1 : Int32), (), rfl, hw, by rw [ht]; exact hP9, hD9⟩, hS.F ht⟩) hS.2.2 dX0_copy_17)
/-! BattleBench.copy(IIIII)I -/
def wp_X0_copy_JS (rn : Nat) (rw : Nat → Int64) (rn2 : Nat) (rw2 : Nat → Int32) (p1 : Int32) (p2 : Int32) (p3 : Int32) (p4 : Int32) (p5 : Int32) (Q : Int32 → Prop) : Prop :=
  wp_X0_isSheet  p1 (0 : Int32) (fun r_1 => (((r_1 = 0) → Q (-1 : Int32)) ∧ (¬ (r_1 = 0) → wp_X0_isSheet  p3 (0 : Int32) (fun r_3 => ((¬ (r_3 = 0) → (vp_in p1 4 ∧ (vp_in p3 4 ∧ Q (-12 : Int32)))) ∧ ((r_3 = 0) → Q (-1 : Int32)))))))
set_option maxHeartbeats 4000000 in
theorem mt_X0_copy_JS (l : Launch) (G : GT) (aS : Nat) (hfl : l.flags = pinnedFlags ++ [noTraceFlag]) (h h_kinds h_now h_fault h_tape h_got h_failing h_past h_aside h_best h_tried h_kept h_keptPast h_sheets h_sheets_x h_sheets_x_r h_sheets_y h_sheets_y_r : Nat) (shf : Nat → Option Nat) (sz : Nat) (taped : Int32) (reads : Int32) (undoMany : Int32) (keptMany : Int32) (isKept : Int32) (rn : Nat) (rw : Nat → Int64) (rn2 : Nat) (rw2 : Nat → Int32) (p1 : Int32) (p2 : Int32) (p3 : Int32) (p4 : Int32) (p5 : Int32)(hsh : shf p1.toNatClampNeg = some h_sheets_x) (hsh2 : shf p3.toNatClampNeg = some h_sheets_y) (Q : Int32 → Prop) (hw : wp_X0_copy_JS rn rw rn2 rw2 p1 p2 p3 p4 p5 Q) : Met l yX0_copy (wsW_ yX0_copy cX0_copy 7 (some .int) [(18, 44, 47, 354), (18, 44, 52, 360), (18, 44, 57, 362)]) ({ frames := 9, cells := 3, slots := 1010, locals := 10248 } : Room) (va_Pc [.ref h, .int p1, .int p2, .int p3, .int p4, .int p5] (fun U => U.heap.size = sz ∧ va_P G.1 gCl [oc h 0 [.ref h_kinds, .ref h_now, .ref h_fault, .ref h_tape, .int taped, .int reads, .ref h_got, .ref h_failing, .ref h_past, .int undoMany, .ref h_aside, .ref h_best, .ref h_tried, .ref h_kept, .ref h_keptPast, .int keptMany, .int isKept, .ref h_sheets], arf G h_sheets 7 4 shf, oc h_sheets_x 8 [.ref h_sheets_x_r], al G h_sheets_x_r rn rw, oc h_sheets_y 8 [.ref h_sheets_y_r], ah G h_sheets_y_r rn2 rw2] U.heap ∧ gK G U ∧ va_D (fun _ => True) [oc h 0 [.ref h_kinds, .ref h_now, .ref h_fault, .ref h_tape, .int taped, .int reads, .ref h_got, .ref h_failing, .ref h_past, .int undoMany, .ref h_aside, .ref h_best, .ref h_tried, .ref h_kept, .ref h_keptPast, .int keptMany, .int isKept, .ref h_sheets], arf G h_sheets 7 4 shf, oc h_sheets_x 8 [.ref h_sheets_x_r], al G h_sheets_x_r rn rw, oc h_sheets_y 8 [.ref h_sheets_y_r], ah G h_sheets_y_r rn2 rw2] ∧ stS aS U)) ((fun A => (va_Qi (fun (r : Int32) (u : Unit) => Q r ) (fun u t => va_P G.1 gCl [oc h 0 [.ref h_kinds, .ref h_now, .ref h_fault, .ref h_tape, .int taped, .int reads, .ref h_got, .ref h_failing, .ref h_past, .int undoMany, .ref h_aside, .ref h_best, .ref h_tried, .ref h_kept, .ref h_keptPast, .int keptMany, .int isKept, .ref h_sheets], arf G h_sheets 7 4 shf, oc h_sheets_x 8 [.ref h_sheets_x_r], al G h_sheets_x_r rn rw, oc h_sheets_y 8 [.ref h_sheets_y_r], ah G h_sheets_y_r rn2 rw2] t.heap ∧ va_D A [oc h 0 [.ref h_kinds, .ref h_now, .ref h_fault, .ref h_tape, .int taped, .int reads, .ref h_got, .ref h_failing, .ref h_past, .int undoMany, .ref h_aside, .ref h_best, .ref h_tried, .ref h_kept, .ref h_keptPast, .int keptMany, .int isKept, .ref h_sheets], arf G h_sheets 7 4 shf, oc h_sheets_x 8 [.ref h_sheets_x_r], al G h_sheets_x_r rn rw, oc h_sheets_y 8 [.ref h_sheets_y_r], ah G h_sheets_y_r rn2 rw2]) A)) (va_A [oc h 0 [.ref h_kinds, .ref h_now, .ref h_fault, .ref h_tape, .int taped, .int reads, .ref h_got, .ref h_failing, .ref h_past, .int undoMany, .ref h_aside, .ref h_best, .ref h_tried, .ref h_kept, .ref h_keptPast, .int keptMany, .int isKept, .ref h_sheets], arf G h_sheets 7 4 shf, oc h_sheets_x 8 [.ref h_sheets_x_r], al G h_sheets_x_r rn rw, oc h_sheets_y 8 [.ref h_sheets_y_r], ah G h_sheets_y_r rn2 rw2] sz)) 3 1010 (va_A [oc h 0 [.ref h_kinds, .ref h_now, .ref h_fault, .ref h_tape, .int taped, .int reads, .ref h_got, .ref h_failing, .ref h_past, .int undoMany, .ref h_aside, .ref h_best, .ref h_tried, .ref h_kept, .ref h_keptPast, .int keptMany, .int isKept, .ref h_sheets], arf G h_sheets 7 4 shf, oc h_sheets_x 8 [.ref h_sheets_x_r], al G h_sheets_x_r rn rw, oc h_sheets_y 8 [.ref h_sheets_y_r], ah G h_sheets_y_r rn2 rw2] sz) := by
  refine va_MetW (hh := [(18, 44, 47, 354), (18, 44, 52, 360), (18, 44, 57, 362)]) (cc := cX0_copy) (maxL := 7) (ret := (some .int)) (by decide) rfl ?_
  intro p e s m args below meth c s₁ B hml hv
  obtain ⟨rfl, hsz, hP, hK, hD0, hst⟩ := hv
  have hx := B.exec
  have hb := B.bytes
  have hr := B.returns
  have hts := atoms_spec (ws := (wsW_ yX0_copy cX0_copy 7 (some .int) [(18, 44, 47, 354), (18, 44, 52, 360), (18, 44, 57, 362)])) B.pre
  have hts : ∀ w ∈ lw_all, w.before _ s = true := fun w h => hts w (List.mem_cons_of_mem _ h)
  have hown : s.vm.findClass RX0 = some m.cls := findClass_of_methodNamed B.named
  have hlocks := B.notSynchronized
  have hhd : c.exceptionTable.toList = [⟨18, 44, 47, 354⟩, ⟨18, 44, 52, 360⟩, ⟨18, 44, 57, 362⟩] := x_hand B (atoms_spec (ws := (wsW_ yX0_copy cX0_copy 7 (some .int) [(18, 44, 47, 354), (18, 44, 52, 360), (18, 44, 57, 362)])) B.pre _ List.mem_cons_self)
  subst hsz
  have hD := hD0.self (sz := s.heap.size)
  generalize hAe : va_A [oc h 0 [.ref h_kinds, .ref h_now, .ref h_fault, .ref h_tape, .int taped, .int reads, .ref h_got, .ref h_failing, .ref h_past, .int undoMany, .ref h_aside, .ref h_best, .ref h_tried, .ref h_kept, .ref h_keptPast, .int keptMany, .int isKept, .ref h_sheets], arf G h_sheets 7 4 shf, oc h_sheets_x 8 [.ref h_sheets_x_r], al G h_sheets_x_r rn rw, oc h_sheets_y 8 [.ref h_sheets_y_r], ah G h_sheets_y_r rn2 rw2] s.heap.size = A at hD ⊢
  have hA : ∀ q : Nat, s.heap.size ≤ q → A q := fun q h => by rw [← hAe]; exact Or.inr h
  have hS : va_S A s.heap s.heap [] := va_S.rf
  have hX : XCx l aS s A := ⟨hfl, hst, fun q cell hq hc => va_A.ns hP (by rw [hAe]; exact hq) hc⟩
  have C : Cx p s m meth c cX0_copy 7 (some .int) RX0 ([.ref h, .int p1, .int p2, .int p3, .int p4, .int p5] : List Value).toArray G A := ⟨hx, hb, hr, hlocks, hml, hown, hts, hK, hA⟩
  have hl := lv_entry ([.ref h, .int p1, .int p2, .int p3, .int p4, .int p5]) (n := 7) (Nat.le_of_ble_eq_true rfl)
  rw [lg_entry_eq]
  generalize (lg_sl ([.ref h, .int p1, .int p2, .int p3, .int p4, .int p5]) ++ List.replicate (7 - (lg_sl ([.ref h, .int p1, .int p2, .int p3, .int p4, .int p5])).length) Slot.unset).toArray = ls at hl ⊢
  have hl : lv_has ls 7 [(0, .ref h), (1, .int p1), (2, .int p2), (3, .int p3), (4, .int p4), (5, .int p5)] := hl
  unfold wp_X0_copy_JS at hw
  refine lv_iload_n hx hb dX0_copy_0 rfl (lv_at hl 1 rfl) ?_
  refine lv_iconst (v := (0 : Int32)) hx hb dX0_copy_1 (by decide) ?_
  have hPc := hP.sub (ws' := []) [] rfl
  have hDc := hD.sub (ws' := []) [] (by decide) rfl
  have hFc := va_free (wc := []) hD hS hA [] rfl
  refine va_calli (va_runS (As := [.int p1, .int (0 : Int32)]) (rest := []) ⟨hx, hb, hml, hown, hts⟩ (mt_X0_isSheet l G  s.heap.size  p1 (0 : Int32) _ hw) (va_cwS 2 hts (lw_S q648 q649 q54 q650) rfl rfl rfl (by decide +kernel) ⟨Nat.le_of_ble_eq_true rfl, Nat.le_of_ble_eq_true rfl⟩) ⟨fun a U g mk q => by obtain ⟨q0, q1, qP, qK, qD⟩ := q; exact ⟨q0, q1, qP, qK.call, qD⟩, fun U hU hW => ⟨rfl, by rw [hU], by rw [hU]; exact hPc, hK.warm hW, hDc.weaken (fun _ _ _ _ => trivial)⟩⟩ rfl rfl hl.1 rfl (lv_room (Nat.le_of_ble_eq_true rfl)) dX0_copy_2 ⟨Nat.le_of_ble_eq_true rfl, Nat.le_of_ble_eq_true rfl⟩) hS (fun q _ h => hFc q h) hFc (fun r_1 _ t H1 locs ht hvm hw hB hz1 hk1 hS => ?_)
  obtain ⟨hP1, hD1⟩ := hB
  rw [ht] at hP1
  obtain ⟨hP, hD⟩ := va_join (wr := [oc h 0 [.ref h_kinds, .ref h_now, .ref h_fault, .ref h_tape, .int taped, .int reads, .ref h_got, .ref h_failing, .ref h_past, .int undoMany, .ref h_aside, .ref h_best, .ref h_tried, .ref h_kept, .ref h_keptPast, .int keptMany, .int isKept, .ref h_sheets], arf G h_sheets 7 4 shf, oc h_sheets_x 8 [.ref h_sheets_x_r], al G h_sheets_x_r rn rw, oc h_sheets_y 8 [.ref h_sheets_y_r], ah G h_sheets_y_r rn2 rw2]) (w1 := []) hP hD [] [0, 1, 2, 3, 4, 5] rfl rfl (by decide) (by decide) hk1 hFc hP1 hD1
  clear hPc hDc hFc hP1 hD1 hz1 hk1 hvm
  generalize H1 = H at hP hS ⊢
  have hP : va_P G.1 gCl [oc h 0 [.ref h_kinds, .ref h_now, .ref h_fault, .ref h_tape, .int taped, .int reads, .ref h_got, .ref h_failing, .ref h_past, .int undoMany, .ref h_aside, .ref h_best, .ref h_tried, .ref h_kept, .ref h_keptPast, .int keptMany, .int isKept, .ref h_sheets], arf G h_sheets 7 4 shf, oc h_sheets_x 8 [.ref h_sheets_x_r], al G h_sheets_x_r rn rw, oc h_sheets_y 8 [.ref h_sheets_y_r], ah G h_sheets_y_r rn2 rw2] H := hP
  have hD : va_D A [oc h 0 [.ref h_kinds, .ref h_now, .ref h_fault, .ref h_tape, .int taped, .int reads, .ref h_got, .ref h_failing, .ref h_past, .int undoMany, .ref h_aside, .ref h_best, .ref h_tried, .ref h_kept, .ref h_keptPast, .int keptMany, .int isKept, .ref h_sheets], arf G h_sheets 7 4 shf, oc h_sheets_x 8 [.ref h_sheets_x_r], al G h_sheets_x_r rn rw, oc h_sheets_y 8 [.ref h_sheets_y_r], ah G h_sheets_y_r rn2 rw2] := hD
  refine lv_if_eq (tgt := 16) hx hb dX0_copy_5 (by decide) (fun c_2 => ?_) (fun c_2 => ?_)
  · replace hw := hw.1 c_2
    refine lv_iconst (v := (-1 : Int32)) hx hb dX0_copy_16 (by decide) ?_
    have hP9 := hP
    have hD9 := hD
    exact w_widen (k := 3) (n := 1010) (by first | exact Nat.le_of_ble_eq_true rfl | omega) (by first | exact Nat.le_of_ble_eq_true rfl | omega) (W.iret (v := (-1 : Int32)) hx hb hr (fun t ht hW => ⟨⟨(-1 : Int32), (), rfl, hw, by rw [ht]; exact hP9, hD9⟩, hS.F ht⟩) hS.2.2 dX0_copy_17)
  · replace hw := hw.2 c_2
    refine lv_iload_n hx hb dX0_copy_8 rfl (lv_at hl 3 rfl) ?_
    refine lv_iconst (v := (0 : Int32)) hx hb dX0_copy_9 (by decide) ?_
    have hPc := hP.sub (ws' := []) [] rfl
    have hDc := hD.sub (ws' := []) [] (by decide) rfl
    have hFc := va_free (wc := []) hD hS hA [] rfl
    refine va_calli (va_runS (As := [.int p3, .int (0 : Int32)]) (rest := []) ⟨hx, hb, hml, hown, hts⟩ (mt_X0_isSheet l G  H.size  p3 (0 : Int32) _ hw) (va_cwS 2 hts (lw_S q648 q649 q54 q650) rfl rfl rfl (by decide +kernel) ⟨Nat.le_of_ble_eq_true rfl, Nat.le_of_ble_eq_true rfl⟩) ⟨fun a U g mk q => by obtain ⟨q0, q1, qP, qK, qD⟩ := q; exact ⟨q0, q1, qP, qK.call, qD⟩, fun U hU hW => ⟨rfl, by rw [hU], by rw [hU]; exact hPc, hK.warm hW, hDc.weaken (fun _ _ _ _ => trivial)⟩⟩ rfl rfl hl.1 rfl (lv_room (Nat.le_of_ble_eq_true rfl)) dX0_copy_10 ⟨Nat.le_of_ble_eq_true rfl, Nat.le_of_ble_eq_true rfl⟩) hS (fun q _ h => hFc q h) hFc (fun r_3 _ t H1 locs ht hvm hw hB hz1 hk1 hS => ?_)
    obtain ⟨hP1, hD1⟩ := hB
    rw [ht] at hP1
    obtain ⟨hP, hD⟩ := va_join (wr := [oc h 0 [.ref h_kinds, .ref h_now, .ref h_fault, .ref h_tape, .int taped, .int reads, .ref h_got, .ref h_failing, .ref h_past, .int undoMany, .ref h_aside, .ref h_best, .ref h_tried, .ref h_kept, .ref h_keptPast, .int keptMany, .int isKept, .ref h_sheets], arf G h_sheets 7 4 shf, oc h_sheets_x 8 [.ref h_sheets_x_r], al G h_sheets_x_r rn rw, oc h_sheets_y 8 [.ref h_sheets_y_r], ah G h_sheets_y_r rn2 rw2]) (w1 := []) hP hD [] [0, 1, 2, 3, 4, 5] rfl rfl (by decide) (by decide) hk1 hFc hP1 hD1
    clear hPc hDc hFc hP1 hD1 hz1 hk1 hvm
    generalize H1 = H at hP hS ⊢
    have hP : va_P G.1 gCl [oc h 0 [.ref h_kinds, .ref h_now, .ref h_fault, .ref h_tape, .int taped, .int reads, .ref h_got, .ref h_failing, .ref h_past, .int undoMany, .ref h_aside, .ref h_best, .ref h_tried, .ref h_kept, .ref h_keptPast, .int keptMany, .int isKept, .ref h_sheets], arf G h_sheets 7 4 shf, oc h_sheets_x 8 [.ref h_sheets_x_r], al G h_sheets_x_r rn rw, oc h_sheets_y 8 [.ref h_sheets_y_r], ah G h_sheets_y_r rn2 rw2] H := hP
    have hD : va_D A [oc h 0 [.ref h_kinds, .ref h_now, .ref h_fault, .ref h_tape, .int taped, .int reads, .ref h_got, .ref h_failing, .ref h_past, .int undoMany, .ref h_aside, .ref h_best, .ref h_tried, .ref h_kept, .ref h_keptPast, .int keptMany, .int isKept, .ref h_sheets], arf G h_sheets 7 4 shf, oc h_sheets_x 8 [.ref h_sheets_x_r], al G h_sheets_x_r rn rw, oc h_sheets_y 8 [.ref h_sheets_y_r], ah G h_sheets_y_r rn2 rw2] := hD
    refine lv_if_ne (tgt := 18) hx hb dX0_copy_13 (by decide) (fun c_4 => ?_) (fun c_4 => ?_)
    · replace hw := hw.1 c_4
      refine lv_aload_n hx hb dX0_copy_18 rfl (lv_at hl 0 rfl) ?_
      refine va_get (D := G.1) (ci := 0) (v := .ref h_sheets) (C := RX0) (T := TX0) (N := 18) hx hb hts in_X0 hown hK.1 hP 0 rfl rfl 17 (by decide) (hts _ q273) (fun _ h9 => h9) rfl dX0_copy_19 ?_
      refine lv_iload_n hx hb dX0_copy_22 rfl (lv_at hl 1 rfl) ?_
      obtain ⟨i_5, hw⟩ := hw
      refine z_aaldS hx hb hK.1 hP 1 7 rfl rfl i_5 dX0_copy_23 hsh ?_
      refine va_getN (D := G.1) (ci := 8) (v := .ref h_sheets_x_r) (C := RX8) (T := TX8) (N := 1) hx hb hts in_X8 hown hK.1 hP 2 rfl rfl 0 (by decide) (hK.n q251 rfl) (fun _ h9 => h9) rfl dX0_copy_24 ?_
      refine lv_iload_n hx hb dX0_copy_27 rfl (lv_at hl 2 rfl) ?_
      refine lv_aload_n hx hb dX0_copy_28 rfl (lv_at hl 0 rfl) ?_
      refine va_get (D := G.1) (ci := 0) (v := .ref h_sheets) (C := RX0) (T := TX0) (N := 18) hx hb hts in_X0 hown hK.1 hP 0 rfl rfl 17 (by decide) (hts _ q273) (fun _ h9 => h9) rfl dX0_copy_29 ?_
      refine lv_iload_n hx hb dX0_copy_32 rfl (lv_at hl 3 rfl) ?_
      obtain ⟨i_6, hw⟩ := hw
      refine z_aaldS hx hb hK.1 hP 1 7 rfl rfl i_6 dX0_copy_33 hsh2 ?_
      refine va_getN (D := G.1) (ci := 8) (v := .ref h_sheets_y_r) (C := RX8) (T := TX8) (N := 1) hx hb hts in_X8 hown hK.1 hP 4 rfl rfl 0 (by decide) (hK.n q251 rfl) (fun _ h9 => h9) rfl dX0_copy_34 ?_
      refine lv_iload hx hb dX0_copy_37 (lv_at hl 4 rfl) ?_
      refine lv_iload hx hb dX0_copy_39 (lv_at hl 5 rfl) ?_
      refine w_cpType (rest := []) ⟨hx, hb, hml.trans hl.1.symm, hts, hK, hX, hS, hP, hown, hts _ q512, hts _ q440, hts _ q439, hts _ q68, dX0_copy_41, Nat.le_of_ble_eq_true rfl, Nat.le_of_ble_eq_true rfl, Nat.le_of_ble_eq_true rfl, Nat.le_of_ble_eq_true rfl, Nat.le_of_ble_eq_true rfl⟩ 3 5 1 4 rfl rfl rfl rfl (by decide) (fun x_7 H hxo hP hS hz hk => ?_)
      obtain ⟨ce, hce, hcv, hcc⟩ := hxo
      refine wx_catch (cell := ce) hce (by rw [hcv]; rfl) [⟨18, 44, 47, 354⟩] ⟨18, 44, 52, 360⟩ [⟨18, 44, 57, 362⟩] hhd (fun pl hpl z hz => (List.forall_mem_cons.mpr ⟨x_pass (z := ⟨18, 44, 47, 354⟩) (by decide) (by decide) hown (hts _ q734) (hK.2.2 ("java/lang/ArrayStoreException", "java/lang/NullPointerException") (by decide +kernel)) hcc pl hpl, fun _ h9 => absurd h9 List.not_mem_nil⟩) z hz) (by decide) (by decide) hown (hts _ q796) (cT := ce.cls) hcc (vm_refl (args := #[]) (hK.n q808 rfl) hcc) ?_
      refine lv_astore (lv' := [(6, .ref x_7), (0, .ref h), (1, .int p1), (2, .int p2), (3, .int p3), (4, .int p4), (5, .int p5)]) hx hb dX0_copy_52 hl (by decide) rfl (fun ls hl => ?_)
      refine lv_bipush (v := (-12 : Int32)) hx hb dX0_copy_54 (by decide) ?_
      have hP9 := hP
      have hD9 := hD
      exact w_widen (k := 3) (n := 1010) (by first | exact Nat.le_of_ble_eq_true rfl | omega) (by first | exact Nat.le_of_ble_eq_true rfl | omega) (W.iret (v := (-12 : Int32)) hx hb hr (fun t ht hW => ⟨⟨(-12 : Int32), (), rfl, hw, by rw [ht]; exact hP9, hD9⟩, hS.F ht⟩) hS.2.2 dX0_copy_56)
    · replace hw := hw.2 c_4
      refine lv_iconst (v := (-1 : Int32)) hx hb dX0_copy_16 (by decide) ?_
      have hP9 := hP
      have hD9 := hD
      exact w_widen (k := 3) (n := 1010) (by first | exact Nat.le_of_ble_eq_true rfl | omega) (by first | exact Nat.le_of_ble_eq_true rfl | omega) (W.iret (v := (-1 : Int32)) hx hb hr (fun t ht hW => ⟨⟨(-1 : Int32), (), rfl, hw, by rw [ht]; exact hP9, hD9⟩, hS.F ht⟩) hS.2.2 dX0_copy_17)
/-! BattleBench.copy(IIIII)I -/
def wp_X0_copy_JI (rn : Nat) (rw : Nat → Int64) (rn2 : Nat) (rw2 : Nat → Int32) (p1 : Int32) (p2 : Int32) (p3 : Int32) (p4 : Int32) (p5 : Int32) (Q : Int32 → Prop) : Prop :=
  wp_X0_isSheet  p1 (0 : Int32) (fun r_1 => (((r_1 = 0) → Q (-1 : Int32)) ∧ (¬ (r_1 = 0) → wp_X0_isSheet  p3 (0 : Int32) (fun r_3 => ((¬ (r_3 = 0) → (vp_in p1 4 ∧ (vp_in p3 4 ∧ Q (-12 : Int32)))) ∧ ((r_3 = 0) → Q (-1 : Int32)))))))
set_option maxHeartbeats 4000000 in
theorem mt_X0_copy_JI (l : Launch) (G : GT) (aS : Nat) (hfl : l.flags = pinnedFlags ++ [noTraceFlag]) (h h_kinds h_now h_fault h_tape h_got h_failing h_past h_aside h_best h_tried h_kept h_keptPast h_sheets h_sheets_x h_sheets_x_r h_sheets_y h_sheets_y_r : Nat) (shf : Nat → Option Nat) (sz : Nat) (taped : Int32) (reads : Int32) (undoMany : Int32) (keptMany : Int32) (isKept : Int32) (rn : Nat) (rw : Nat → Int64) (rn2 : Nat) (rw2 : Nat → Int32) (p1 : Int32) (p2 : Int32) (p3 : Int32) (p4 : Int32) (p5 : Int32)(hsh : shf p1.toNatClampNeg = some h_sheets_x) (hsh2 : shf p3.toNatClampNeg = some h_sheets_y) (Q : Int32 → Prop) (hw : wp_X0_copy_JI rn rw rn2 rw2 p1 p2 p3 p4 p5 Q) : Met l yX0_copy (wsW_ yX0_copy cX0_copy 7 (some .int) [(18, 44, 47, 354), (18, 44, 52, 360), (18, 44, 57, 362)]) ({ frames := 9, cells := 3, slots := 1010, locals := 10248 } : Room) (va_Pc [.ref h, .int p1, .int p2, .int p3, .int p4, .int p5] (fun U => U.heap.size = sz ∧ va_P G.1 gCl [oc h 0 [.ref h_kinds, .ref h_now, .ref h_fault, .ref h_tape, .int taped, .int reads, .ref h_got, .ref h_failing, .ref h_past, .int undoMany, .ref h_aside, .ref h_best, .ref h_tried, .ref h_kept, .ref h_keptPast, .int keptMany, .int isKept, .ref h_sheets], arf G h_sheets 7 4 shf, oc h_sheets_x 8 [.ref h_sheets_x_r], al G h_sheets_x_r rn rw, oc h_sheets_y 8 [.ref h_sheets_y_r], ai G h_sheets_y_r rn2 rw2] U.heap ∧ gK G U ∧ va_D (fun _ => True) [oc h 0 [.ref h_kinds, .ref h_now, .ref h_fault, .ref h_tape, .int taped, .int reads, .ref h_got, .ref h_failing, .ref h_past, .int undoMany, .ref h_aside, .ref h_best, .ref h_tried, .ref h_kept, .ref h_keptPast, .int keptMany, .int isKept, .ref h_sheets], arf G h_sheets 7 4 shf, oc h_sheets_x 8 [.ref h_sheets_x_r], al G h_sheets_x_r rn rw, oc h_sheets_y 8 [.ref h_sheets_y_r], ai G h_sheets_y_r rn2 rw2] ∧ stS aS U)) ((fun A => (va_Qi (fun (r : Int32) (u : Unit) => Q r ) (fun u t => va_P G.1 gCl [oc h 0 [.ref h_kinds, .ref h_now, .ref h_fault, .ref h_tape, .int taped, .int reads, .ref h_got, .ref h_failing, .ref h_past, .int undoMany, .ref h_aside, .ref h_best, .ref h_tried, .ref h_kept, .ref h_keptPast, .int keptMany, .int isKept, .ref h_sheets], arf G h_sheets 7 4 shf, oc h_sheets_x 8 [.ref h_sheets_x_r], al G h_sheets_x_r rn rw, oc h_sheets_y 8 [.ref h_sheets_y_r], ai G h_sheets_y_r rn2 rw2] t.heap ∧ va_D A [oc h 0 [.ref h_kinds, .ref h_now, .ref h_fault, .ref h_tape, .int taped, .int reads, .ref h_got, .ref h_failing, .ref h_past, .int undoMany, .ref h_aside, .ref h_best, .ref h_tried, .ref h_kept, .ref h_keptPast, .int keptMany, .int isKept, .ref h_sheets], arf G h_sheets 7 4 shf, oc h_sheets_x 8 [.ref h_sheets_x_r], al G h_sheets_x_r rn rw, oc h_sheets_y 8 [.ref h_sheets_y_r], ai G h_sheets_y_r rn2 rw2]) A)) (va_A [oc h 0 [.ref h_kinds, .ref h_now, .ref h_fault, .ref h_tape, .int taped, .int reads, .ref h_got, .ref h_failing, .ref h_past, .int undoMany, .ref h_aside, .ref h_best, .ref h_tried, .ref h_kept, .ref h_keptPast, .int keptMany, .int isKept, .ref h_sheets], arf G h_sheets 7 4 shf, oc h_sheets_x 8 [.ref h_sheets_x_r], al G h_sheets_x_r rn rw, oc h_sheets_y 8 [.ref h_sheets_y_r], ai G h_sheets_y_r rn2 rw2] sz)) 3 1010 (va_A [oc h 0 [.ref h_kinds, .ref h_now, .ref h_fault, .ref h_tape, .int taped, .int reads, .ref h_got, .ref h_failing, .ref h_past, .int undoMany, .ref h_aside, .ref h_best, .ref h_tried, .ref h_kept, .ref h_keptPast, .int keptMany, .int isKept, .ref h_sheets], arf G h_sheets 7 4 shf, oc h_sheets_x 8 [.ref h_sheets_x_r], al G h_sheets_x_r rn rw, oc h_sheets_y 8 [.ref h_sheets_y_r], ai G h_sheets_y_r rn2 rw2] sz) := by
  refine va_MetW (hh := [(18, 44, 47, 354), (18, 44, 52, 360), (18, 44, 57, 362)]) (cc := cX0_copy) (maxL := 7) (ret := (some .int)) (by decide) rfl ?_
  intro p e s m args below meth c s₁ B hml hv
  obtain ⟨rfl, hsz, hP, hK, hD0, hst⟩ := hv
  have hx := B.exec
  have hb := B.bytes
  have hr := B.returns
  have hts := atoms_spec (ws := (wsW_ yX0_copy cX0_copy 7 (some .int) [(18, 44, 47, 354), (18, 44, 52, 360), (18, 44, 57, 362)])) B.pre
  have hts : ∀ w ∈ lw_all, w.before _ s = true := fun w h => hts w (List.mem_cons_of_mem _ h)
  have hown : s.vm.findClass RX0 = some m.cls := findClass_of_methodNamed B.named
  have hlocks := B.notSynchronized
  have hhd : c.exceptionTable.toList = [⟨18, 44, 47, 354⟩, ⟨18, 44, 52, 360⟩, ⟨18, 44, 57, 362⟩] := x_hand B (atoms_spec (ws := (wsW_ yX0_copy cX0_copy 7 (some .int) [(18, 44, 47, 354), (18, 44, 52, 360), (18, 44, 57, 362)])) B.pre _ List.mem_cons_self)
  subst hsz
  have hD := hD0.self (sz := s.heap.size)
  generalize hAe : va_A [oc h 0 [.ref h_kinds, .ref h_now, .ref h_fault, .ref h_tape, .int taped, .int reads, .ref h_got, .ref h_failing, .ref h_past, .int undoMany, .ref h_aside, .ref h_best, .ref h_tried, .ref h_kept, .ref h_keptPast, .int keptMany, .int isKept, .ref h_sheets], arf G h_sheets 7 4 shf, oc h_sheets_x 8 [.ref h_sheets_x_r], al G h_sheets_x_r rn rw, oc h_sheets_y 8 [.ref h_sheets_y_r], ai G h_sheets_y_r rn2 rw2] s.heap.size = A at hD ⊢
  have hA : ∀ q : Nat, s.heap.size ≤ q → A q := fun q h => by rw [← hAe]; exact Or.inr h
  have hS : va_S A s.heap s.heap [] := va_S.rf
  have hX : XCx l aS s A := ⟨hfl, hst, fun q cell hq hc => va_A.ns hP (by rw [hAe]; exact hq) hc⟩
  have C : Cx p s m meth c cX0_copy 7 (some .int) RX0 ([.ref h, .int p1, .int p2, .int p3, .int p4, .int p5] : List Value).toArray G A := ⟨hx, hb, hr, hlocks, hml, hown, hts, hK, hA⟩
  have hl := lv_entry ([.ref h, .int p1, .int p2, .int p3, .int p4, .int p5]) (n := 7) (Nat.le_of_ble_eq_true rfl)
  rw [lg_entry_eq]
  generalize (lg_sl ([.ref h, .int p1, .int p2, .int p3, .int p4, .int p5]) ++ List.replicate (7 - (lg_sl ([.ref h, .int p1, .int p2, .int p3, .int p4, .int p5])).length) Slot.unset).toArray = ls at hl ⊢
  have hl : lv_has ls 7 [(0, .ref h), (1, .int p1), (2, .int p2), (3, .int p3), (4, .int p4), (5, .int p5)] := hl
  unfold wp_X0_copy_JI at hw
  refine lv_iload_n hx hb dX0_copy_0 rfl (lv_at hl 1 rfl) ?_
  refine lv_iconst (v := (0 : Int32)) hx hb dX0_copy_1 (by decide) ?_
  have hPc := hP.sub (ws' := []) [] rfl
  have hDc := hD.sub (ws' := []) [] (by decide) rfl
  have hFc := va_free (wc := []) hD hS hA [] rfl
  refine va_calli (va_runS (As := [.int p1, .int (0 : Int32)]) (rest := []) ⟨hx, hb, hml, hown, hts⟩ (mt_X0_isSheet l G  s.heap.size  p1 (0 : Int32) _ hw) (va_cwS 2 hts (lw_S q648 q649 q54 q650) rfl rfl rfl (by decide +kernel) ⟨Nat.le_of_ble_eq_true rfl, Nat.le_of_ble_eq_true rfl⟩) ⟨fun a U g mk q => by obtain ⟨q0, q1, qP, qK, qD⟩ := q; exact ⟨q0, q1, qP, qK.call, qD⟩, fun U hU hW => ⟨rfl, by rw [hU], by rw [hU]; exact hPc, hK.warm hW, hDc.weaken (fun _ _ _ _ => trivial)⟩⟩ rfl rfl hl.1 rfl (lv_room (Nat.le_of_ble_eq_true rfl)) dX0_copy_2 ⟨Nat.le_of_ble_eq_true rfl, Nat.le_of_ble_eq_true rfl⟩) hS (fun q _ h => hFc q h) hFc (fun r_1 _ t H1 locs ht hvm hw hB hz1 hk1 hS => ?_)
  obtain ⟨hP1, hD1⟩ := hB
  rw [ht] at hP1
  obtain ⟨hP, hD⟩ := va_join (wr := [oc h 0 [.ref h_kinds, .ref h_now, .ref h_fault, .ref h_tape, .int taped, .int reads, .ref h_got, .ref h_failing, .ref h_past, .int undoMany, .ref h_aside, .ref h_best, .ref h_tried, .ref h_kept, .ref h_keptPast, .int keptMany, .int isKept, .ref h_sheets], arf G h_sheets 7 4 shf, oc h_sheets_x 8 [.ref h_sheets_x_r], al G h_sheets_x_r rn rw, oc h_sheets_y 8 [.ref h_sheets_y_r], ai G h_sheets_y_r rn2 rw2]) (w1 := []) hP hD [] [0, 1, 2, 3, 4, 5] rfl rfl (by decide) (by decide) hk1 hFc hP1 hD1
  clear hPc hDc hFc hP1 hD1 hz1 hk1 hvm
  generalize H1 = H at hP hS ⊢
  have hP : va_P G.1 gCl [oc h 0 [.ref h_kinds, .ref h_now, .ref h_fault, .ref h_tape, .int taped, .int reads, .ref h_got, .ref h_failing, .ref h_past, .int undoMany, .ref h_aside, .ref h_best, .ref h_tried, .ref h_kept, .ref h_keptPast, .int keptMany, .int isKept, .ref h_sheets], arf G h_sheets 7 4 shf, oc h_sheets_x 8 [.ref h_sheets_x_r], al G h_sheets_x_r rn rw, oc h_sheets_y 8 [.ref h_sheets_y_r], ai G h_sheets_y_r rn2 rw2] H := hP
  have hD : va_D A [oc h 0 [.ref h_kinds, .ref h_now, .ref h_fault, .ref h_tape, .int taped, .int reads, .ref h_got, .ref h_failing, .ref h_past, .int undoMany, .ref h_aside, .ref h_best, .ref h_tried, .ref h_kept, .ref h_keptPast, .int keptMany, .int isKept, .ref h_sheets], arf G h_sheets 7 4 shf, oc h_sheets_x 8 [.ref h_sheets_x_r], al G h_sheets_x_r rn rw, oc h_sheets_y 8 [.ref h_sheets_y_r], ai G h_sheets_y_r rn2 rw2] := hD
  refine lv_if_eq (tgt := 16) hx hb dX0_copy_5 (by decide) (fun c_2 => ?_) (fun c_2 => ?_)
  · replace hw := hw.1 c_2
    refine lv_iconst (v := (-1 : Int32)) hx hb dX0_copy_16 (by decide) ?_
    have hP9 := hP
    have hD9 := hD
    exact w_widen (k := 3) (n := 1010) (by first | exact Nat.le_of_ble_eq_true rfl | omega) (by first | exact Nat.le_of_ble_eq_true rfl | omega) (W.iret (v := (-1 : Int32)) hx hb hr (fun t ht hW => ⟨⟨(-1 : Int32), (), rfl, hw, by rw [ht]; exact hP9, hD9⟩, hS.F ht⟩) hS.2.2 dX0_copy_17)
  · replace hw := hw.2 c_2
    refine lv_iload_n hx hb dX0_copy_8 rfl (lv_at hl 3 rfl) ?_
    refine lv_iconst (v := (0 : Int32)) hx hb dX0_copy_9 (by decide) ?_
    have hPc := hP.sub (ws' := []) [] rfl
    have hDc := hD.sub (ws' := []) [] (by decide) rfl
    have hFc := va_free (wc := []) hD hS hA [] rfl
    refine va_calli (va_runS (As := [.int p3, .int (0 : Int32)]) (rest := []) ⟨hx, hb, hml, hown, hts⟩ (mt_X0_isSheet l G  H.size  p3 (0 : Int32) _ hw) (va_cwS 2 hts (lw_S q648 q649 q54 q650) rfl rfl rfl (by decide +kernel) ⟨Nat.le_of_ble_eq_true rfl, Nat.le_of_ble_eq_true rfl⟩) ⟨fun a U g mk q => by obtain ⟨q0, q1, qP, qK, qD⟩ := q; exact ⟨q0, q1, qP, qK.call, qD⟩, fun U hU hW => ⟨rfl, by rw [hU], by rw [hU]; exact hPc, hK.warm hW, hDc.weaken (fun _ _ _ _ => trivial)⟩⟩ rfl rfl hl.1 rfl (lv_room (Nat.le_of_ble_eq_true rfl)) dX0_copy_10 ⟨Nat.le_of_ble_eq_true rfl, Nat.le_of_ble_eq_true rfl⟩) hS (fun q _ h => hFc q h) hFc (fun r_3 _ t H1 locs ht hvm hw hB hz1 hk1 hS => ?_)
    obtain ⟨hP1, hD1⟩ := hB
    rw [ht] at hP1
    obtain ⟨hP, hD⟩ := va_join (wr := [oc h 0 [.ref h_kinds, .ref h_now, .ref h_fault, .ref h_tape, .int taped, .int reads, .ref h_got, .ref h_failing, .ref h_past, .int undoMany, .ref h_aside, .ref h_best, .ref h_tried, .ref h_kept, .ref h_keptPast, .int keptMany, .int isKept, .ref h_sheets], arf G h_sheets 7 4 shf, oc h_sheets_x 8 [.ref h_sheets_x_r], al G h_sheets_x_r rn rw, oc h_sheets_y 8 [.ref h_sheets_y_r], ai G h_sheets_y_r rn2 rw2]) (w1 := []) hP hD [] [0, 1, 2, 3, 4, 5] rfl rfl (by decide) (by decide) hk1 hFc hP1 hD1
    clear hPc hDc hFc hP1 hD1 hz1 hk1 hvm
    generalize H1 = H at hP hS ⊢
    have hP : va_P G.1 gCl [oc h 0 [.ref h_kinds, .ref h_now, .ref h_fault, .ref h_tape, .int taped, .int reads, .ref h_got, .ref h_failing, .ref h_past, .int undoMany, .ref h_aside, .ref h_best, .ref h_tried, .ref h_kept, .ref h_keptPast, .int keptMany, .int isKept, .ref h_sheets], arf G h_sheets 7 4 shf, oc h_sheets_x 8 [.ref h_sheets_x_r], al G h_sheets_x_r rn rw, oc h_sheets_y 8 [.ref h_sheets_y_r], ai G h_sheets_y_r rn2 rw2] H := hP
    have hD : va_D A [oc h 0 [.ref h_kinds, .ref h_now, .ref h_fault, .ref h_tape, .int taped, .int reads, .ref h_got, .ref h_failing, .ref h_past, .int undoMany, .ref h_aside, .ref h_best, .ref h_tried, .ref h_kept, .ref h_keptPast, .int keptMany, .int isKept, .ref h_sheets], arf G h_sheets 7 4 shf, oc h_sheets_x 8 [.ref h_sheets_x_r], al G h_sheets_x_r rn rw, oc h_sheets_y 8 [.ref h_sheets_y_r], ai G h_sheets_y_r rn2 rw2] := hD
    refine lv_if_ne (tgt := 18) hx hb dX0_copy_13 (by decide) (fun c_4 => ?_) (fun c_4 => ?_)
    · replace hw := hw.1 c_4
      refine lv_aload_n hx hb dX0_copy_18 rfl (lv_at hl 0 rfl) ?_
      refine va_get (D := G.1) (ci := 0) (v := .ref h_sheets) (C := RX0) (T := TX0) (N := 18) hx hb hts in_X0 hown hK.1 hP 0 rfl rfl 17 (by decide) (hts _ q273) (fun _ h9 => h9) rfl dX0_copy_19 ?_
      refine lv_iload_n hx hb dX0_copy_22 rfl (lv_at hl 1 rfl) ?_
      obtain ⟨i_5, hw⟩ := hw
      refine z_aaldS hx hb hK.1 hP 1 7 rfl rfl i_5 dX0_copy_23 hsh ?_
      refine va_getN (D := G.1) (ci := 8) (v := .ref h_sheets_x_r) (C := RX8) (T := TX8) (N := 1) hx hb hts in_X8 hown hK.1 hP 2 rfl rfl 0 (by decide) (hK.n q251 rfl) (fun _ h9 => h9) rfl dX0_copy_24 ?_
      refine lv_iload_n hx hb dX0_copy_27 rfl (lv_at hl 2 rfl) ?_
      refine lv_aload_n hx hb dX0_copy_28 rfl (lv_at hl 0 rfl) ?_
      refine va_get (D := G.1) (ci := 0) (v := .ref h_sheets) (C := RX0) (T := TX0) (N := 18) hx hb hts in_X0 hown hK.1 hP 0 rfl rfl 17 (by decide) (hts _ q273) (fun _ h9 => h9) rfl dX0_copy_29 ?_
      refine lv_iload_n hx hb dX0_copy_32 rfl (lv_at hl 3 rfl) ?_
      obtain ⟨i_6, hw⟩ := hw
      refine z_aaldS hx hb hK.1 hP 1 7 rfl rfl i_6 dX0_copy_33 hsh2 ?_
      refine va_getN (D := G.1) (ci := 8) (v := .ref h_sheets_y_r) (C := RX8) (T := TX8) (N := 1) hx hb hts in_X8 hown hK.1 hP 4 rfl rfl 0 (by decide) (hK.n q251 rfl) (fun _ h9 => h9) rfl dX0_copy_34 ?_
      refine lv_iload hx hb dX0_copy_37 (lv_at hl 4 rfl) ?_
      refine lv_iload hx hb dX0_copy_39 (lv_at hl 5 rfl) ?_
      refine w_cpType (rest := []) ⟨hx, hb, hml.trans hl.1.symm, hts, hK, hX, hS, hP, hown, hts _ q512, hts _ q440, hts _ q439, hts _ q68, dX0_copy_41, Nat.le_of_ble_eq_true rfl, Nat.le_of_ble_eq_true rfl, Nat.le_of_ble_eq_true rfl, Nat.le_of_ble_eq_true rfl, Nat.le_of_ble_eq_true rfl⟩ 3 5 1 0 rfl rfl rfl rfl (by decide) (fun x_7 H hxo hP hS hz hk => ?_)
      obtain ⟨ce, hce, hcv, hcc⟩ := hxo
      refine wx_catch (cell := ce) hce (by rw [hcv]; rfl) [⟨18, 44, 47, 354⟩] ⟨18, 44, 52, 360⟩ [⟨18, 44, 57, 362⟩] hhd (fun pl hpl z hz => (List.forall_mem_cons.mpr ⟨x_pass (z := ⟨18, 44, 47, 354⟩) (by decide) (by decide) hown (hts _ q734) (hK.2.2 ("java/lang/ArrayStoreException", "java/lang/NullPointerException") (by decide +kernel)) hcc pl hpl, fun _ h9 => absurd h9 List.not_mem_nil⟩) z hz) (by decide) (by decide) hown (hts _ q796) (cT := ce.cls) hcc (vm_refl (args := #[]) (hK.n q808 rfl) hcc) ?_
      refine lv_astore (lv' := [(6, .ref x_7), (0, .ref h), (1, .int p1), (2, .int p2), (3, .int p3), (4, .int p4), (5, .int p5)]) hx hb dX0_copy_52 hl (by decide) rfl (fun ls hl => ?_)
      refine lv_bipush (v := (-12 : Int32)) hx hb dX0_copy_54 (by decide) ?_
      have hP9 := hP
      have hD9 := hD
      exact w_widen (k := 3) (n := 1010) (by first | exact Nat.le_of_ble_eq_true rfl | omega) (by first | exact Nat.le_of_ble_eq_true rfl | omega) (W.iret (v := (-12 : Int32)) hx hb hr (fun t ht hW => ⟨⟨(-12 : Int32), (), rfl, hw, by rw [ht]; exact hP9, hD9⟩, hS.F ht⟩) hS.2.2 dX0_copy_56)
    · replace hw := hw.2 c_4
      refine lv_iconst (v := (-1 : Int32)) hx hb dX0_copy_16 (by decide) ?_
      have hP9 := hP
      have hD9 := hD
      exact w_widen (k := 3) (n := 1010) (by first | exact Nat.le_of_ble_eq_true rfl | omega) (by first | exact Nat.le_of_ble_eq_true rfl | omega) (W.iret (v := (-1 : Int32)) hx hb hr (fun t ht hW => ⟨⟨(-1 : Int32), (), rfl, hw, by rw [ht]; exact hP9, hD9⟩, hS.F ht⟩) hS.2.2 dX0_copy_17)
/-! BattleBench.copy(IIIII)I -/
def wp_X0_copy_JJ (rn : Nat) (rw : Nat → Int64) (rn2 : Nat) (rw2 : Nat → Int64) (p1 : Int32) (p2 : Int32) (p3 : Int32) (p4 : Int32) (p5 : Int32) (Q : Int32 → ((Nat → Int64)) → Prop) : Prop :=
  wp_X0_isSheet  p1 (0 : Int32) (fun r_1 => (((r_1 = 0) → Q (-1 : Int32) rw2) ∧ (¬ (r_1 = 0) → wp_X0_isSheet  p3 (0 : Int32) (fun r_3 => ((¬ (r_3 = 0) → (vp_in p1 4 ∧ (vp_in p3 4 ∧ ((cpOk p2 p4 p5 rn rn2 → ∀ f_9 : Nat → Int64, f_9 = va_cpy rw rw2 p2.toNatClampNeg p4.toNatClampNeg p5.toNatClampNeg → Q p5 f_9) ∧ (¬ cpOk p2 p4 p5 rn rn2 → (rn < 2147483648 ∧ rn2 < 2147483648 ∧ Q (-13 : Int32) rw2)))))) ∧ ((r_3 = 0) → Q (-1 : Int32) rw2))))))
set_option maxHeartbeats 4000000 in
theorem mt_X0_copy_JJ (l : Launch) (G : GT) (aS : Nat) (hfl : l.flags = pinnedFlags ++ [noTraceFlag]) (h h_kinds h_now h_fault h_tape h_got h_failing h_past h_aside h_best h_tried h_kept h_keptPast h_sheets h_sheets_x h_sheets_x_r h_sheets_y h_sheets_y_r : Nat) (shf : Nat → Option Nat) (sz : Nat) (taped : Int32) (reads : Int32) (undoMany : Int32) (keptMany : Int32) (isKept : Int32) (rn : Nat) (rw : Nat → Int64) (rn2 : Nat) (rw2 : Nat → Int64) (p1 : Int32) (p2 : Int32) (p3 : Int32) (p4 : Int32) (p5 : Int32)(hsh : shf p1.toNatClampNeg = some h_sheets_x) (hsh2 : shf p3.toNatClampNeg = some h_sheets_y) (Q : Int32 → ((Nat → Int64)) → Prop) (hw : wp_X0_copy_JJ rn rw rn2 rw2 p1 p2 p3 p4 p5 Q) : Met l yX0_copy (wsW_ yX0_copy cX0_copy 7 (some .int) [(18, 44, 47, 354), (18, 44, 52, 360), (18, 44, 57, 362)]) ({ frames := 9, cells := 3, slots := 1010, locals := 10248 } : Room) (va_Pc [.ref h, .int p1, .int p2, .int p3, .int p4, .int p5] (fun U => U.heap.size = sz ∧ va_P G.1 gCl [oc h 0 [.ref h_kinds, .ref h_now, .ref h_fault, .ref h_tape, .int taped, .int reads, .ref h_got, .ref h_failing, .ref h_past, .int undoMany, .ref h_aside, .ref h_best, .ref h_tried, .ref h_kept, .ref h_keptPast, .int keptMany, .int isKept, .ref h_sheets], arf G h_sheets 7 4 shf, oc h_sheets_x 8 [.ref h_sheets_x_r], al G h_sheets_x_r rn rw, oc h_sheets_y 8 [.ref h_sheets_y_r], al G h_sheets_y_r rn2 rw2] U.heap ∧ gK G U ∧ va_D (fun _ => True) [oc h 0 [.ref h_kinds, .ref h_now, .ref h_fault, .ref h_tape, .int taped, .int reads, .ref h_got, .ref h_failing, .ref h_past, .int undoMany, .ref h_aside, .ref h_best, .ref h_tried, .ref h_kept, .ref h_keptPast, .int keptMany, .int isKept, .ref h_sheets], arf G h_sheets 7 4 shf, oc h_sheets_x 8 [.ref h_sheets_x_r], al G h_sheets_x_r rn rw, oc h_sheets_y 8 [.ref h_sheets_y_r], al G h_sheets_y_r rn2 rw2] ∧ stS aS U)) ((fun A => (va_Qi (fun (r : Int32) (u : (Nat → Int64)) => Q r u) (fun u t => va_P G.1 gCl [oc h 0 [.ref h_kinds, .ref h_now, .ref h_fault, .ref h_tape, .int taped, .int reads, .ref h_got, .ref h_failing, .ref h_past, .int undoMany, .ref h_aside, .ref h_best, .ref h_tried, .ref h_kept, .ref h_keptPast, .int keptMany, .int isKept, .ref h_sheets], arf G h_sheets 7 4 shf, oc h_sheets_x 8 [.ref h_sheets_x_r], al G h_sheets_x_r rn rw, oc h_sheets_y 8 [.ref h_sheets_y_r], al G h_sheets_y_r rn2 u] t.heap ∧ va_D A [oc h 0 [.ref h_kinds, .ref h_now, .ref h_fault, .ref h_tape, .int taped, .int reads, .ref h_got, .ref h_failing, .ref h_past, .int undoMany, .ref h_aside, .ref h_best, .ref h_tried, .ref h_kept, .ref h_keptPast, .int keptMany, .int isKept, .ref h_sheets], arf G h_sheets 7 4 shf, oc h_sheets_x 8 [.ref h_sheets_x_r], al G h_sheets_x_r rn rw, oc h_sheets_y 8 [.ref h_sheets_y_r], al G h_sheets_y_r rn2 u]) A)) (va_A [oc h 0 [.ref h_kinds, .ref h_now, .ref h_fault, .ref h_tape, .int taped, .int reads, .ref h_got, .ref h_failing, .ref h_past, .int undoMany, .ref h_aside, .ref h_best, .ref h_tried, .ref h_kept, .ref h_keptPast, .int keptMany, .int isKept, .ref h_sheets], arf G h_sheets 7 4 shf, oc h_sheets_x 8 [.ref h_sheets_x_r], al G h_sheets_x_r rn rw, oc h_sheets_y 8 [.ref h_sheets_y_r], al G h_sheets_y_r rn2 rw2] sz)) 3 1010 (va_A [oc h 0 [.ref h_kinds, .ref h_now, .ref h_fault, .ref h_tape, .int taped, .int reads, .ref h_got, .ref h_failing, .ref h_past, .int undoMany, .ref h_aside, .ref h_best, .ref h_tried, .ref h_kept, .ref h_keptPast, .int keptMany, .int isKept, .ref h_sheets], arf G h_sheets 7 4 shf, oc h_sheets_x 8 [.ref h_sheets_x_r], al G h_sheets_x_r rn rw, oc h_sheets_y 8 [.ref h_sheets_y_r], al G h_sheets_y_r rn2 rw2] sz) := by
  refine va_MetW (hh := [(18, 44, 47, 354), (18, 44, 52, 360), (18, 44, 57, 362)]) (cc := cX0_copy) (maxL := 7) (ret := (some .int)) (by decide) rfl ?_
  intro p e s m args below meth c s₁ B hml hv
  obtain ⟨rfl, hsz, hP, hK, hD0, hst⟩ := hv
  have hx := B.exec
  have hb := B.bytes
  have hr := B.returns
  have hts := atoms_spec (ws := (wsW_ yX0_copy cX0_copy 7 (some .int) [(18, 44, 47, 354), (18, 44, 52, 360), (18, 44, 57, 362)])) B.pre
  have hts : ∀ w ∈ lw_all, w.before _ s = true := fun w h => hts w (List.mem_cons_of_mem _ h)
  have hown : s.vm.findClass RX0 = some m.cls := findClass_of_methodNamed B.named
  have hlocks := B.notSynchronized
  have hhd : c.exceptionTable.toList = [⟨18, 44, 47, 354⟩, ⟨18, 44, 52, 360⟩, ⟨18, 44, 57, 362⟩] := x_hand B (atoms_spec (ws := (wsW_ yX0_copy cX0_copy 7 (some .int) [(18, 44, 47, 354), (18, 44, 52, 360), (18, 44, 57, 362)])) B.pre _ List.mem_cons_self)
  subst hsz
  have hD := hD0.self (sz := s.heap.size)
  generalize hAe : va_A [oc h 0 [.ref h_kinds, .ref h_now, .ref h_fault, .ref h_tape, .int taped, .int reads, .ref h_got, .ref h_failing, .ref h_past, .int undoMany, .ref h_aside, .ref h_best, .ref h_tried, .ref h_kept, .ref h_keptPast, .int keptMany, .int isKept, .ref h_sheets], arf G h_sheets 7 4 shf, oc h_sheets_x 8 [.ref h_sheets_x_r], al G h_sheets_x_r rn rw, oc h_sheets_y 8 [.ref h_sheets_y_r], al G h_sheets_y_r rn2 rw2] s.heap.size = A at hD ⊢
  have hA : ∀ q : Nat, s.heap.size ≤ q → A q := fun q h => by rw [← hAe]; exact Or.inr h
  have hS : va_S A s.heap s.heap [] := va_S.rf
  have hX : XCx l aS s A := ⟨hfl, hst, fun q cell hq hc => va_A.ns hP (by rw [hAe]; exact hq) hc⟩
  have C : Cx p s m meth c cX0_copy 7 (some .int) RX0 ([.ref h, .int p1, .int p2, .int p3, .int p4, .int p5] : List Value).toArray G A := ⟨hx, hb, hr, hlocks, hml, hown, hts, hK, hA⟩
  have hl := lv_entry ([.ref h, .int p1, .int p2, .int p3, .int p4, .int p5]) (n := 7) (Nat.le_of_ble_eq_true rfl)
  rw [lg_entry_eq]
  generalize (lg_sl ([.ref h, .int p1, .int p2, .int p3, .int p4, .int p5]) ++ List.replicate (7 - (lg_sl ([.ref h, .int p1, .int p2, .int p3, .int p4, .int p5])).length) Slot.unset).toArray = ls at hl ⊢
  have hl : lv_has ls 7 [(0, .ref h), (1, .int p1), (2, .int p2), (3, .int p3), (4, .int p4), (5, .int p5)] := hl
  unfold wp_X0_copy_JJ at hw
  refine lv_iload_n hx hb dX0_copy_0 rfl (lv_at hl 1 rfl) ?_
  refine lv_iconst (v := (0 : Int32)) hx hb dX0_copy_1 (by decide) ?_
  have hPc := hP.sub (ws' := []) [] rfl
  have hDc := hD.sub (ws' := []) [] (by decide) rfl
  have hFc := va_free (wc := []) hD hS hA [] rfl
  refine va_calli (va_runS (As := [.int p1, .int (0 : Int32)]) (rest := []) ⟨hx, hb, hml, hown, hts⟩ (mt_X0_isSheet l G  s.heap.size  p1 (0 : Int32) _ hw) (va_cwS 2 hts (lw_S q648 q649 q54 q650) rfl rfl rfl (by decide +kernel) ⟨Nat.le_of_ble_eq_true rfl, Nat.le_of_ble_eq_true rfl⟩) ⟨fun a U g mk q => by obtain ⟨q0, q1, qP, qK, qD⟩ := q; exact ⟨q0, q1, qP, qK.call, qD⟩, fun U hU hW => ⟨rfl, by rw [hU], by rw [hU]; exact hPc, hK.warm hW, hDc.weaken (fun _ _ _ _ => trivial)⟩⟩ rfl rfl hl.1 rfl (lv_room (Nat.le_of_ble_eq_true rfl)) dX0_copy_2 ⟨Nat.le_of_ble_eq_true rfl, Nat.le_of_ble_eq_true rfl⟩) hS (fun q _ h => hFc q h) hFc (fun r_1 _ t H1 locs ht hvm hw hB hz1 hk1 hS => ?_)
  obtain ⟨hP1, hD1⟩ := hB
  rw [ht] at hP1
  obtain ⟨hP, hD⟩ := va_join (wr := [oc h 0 [.ref h_kinds, .ref h_now, .ref h_fault, .ref h_tape, .int taped, .int reads, .ref h_got, .ref h_failing, .ref h_past, .int undoMany, .ref h_aside, .ref h_best, .ref h_tried, .ref h_kept, .ref h_keptPast, .int keptMany, .int isKept, .ref h_sheets], arf G h_sheets 7 4 shf, oc h_sheets_x 8 [.ref h_sheets_x_r], al G h_sheets_x_r rn rw, oc h_sheets_y 8 [.ref h_sheets_y_r], al G h_sheets_y_r rn2 rw2]) (w1 := []) hP hD [] [0, 1, 2, 3, 4, 5] rfl rfl (by decide) (by decide) hk1 hFc hP1 hD1
  clear hPc hDc hFc hP1 hD1 hz1 hk1 hvm
  generalize H1 = H at hP hS ⊢
  have hP : va_P G.1 gCl [oc h 0 [.ref h_kinds, .ref h_now, .ref h_fault, .ref h_tape, .int taped, .int reads, .ref h_got, .ref h_failing, .ref h_past, .int undoMany, .ref h_aside, .ref h_best, .ref h_tried, .ref h_kept, .ref h_keptPast, .int keptMany, .int isKept, .ref h_sheets], arf G h_sheets 7 4 shf, oc h_sheets_x 8 [.ref h_sheets_x_r], al G h_sheets_x_r rn rw, oc h_sheets_y 8 [.ref h_sheets_y_r], al G h_sheets_y_r rn2 rw2] H := hP
  have hD : va_D A [oc h 0 [.ref h_kinds, .ref h_now, .ref h_fault, .ref h_tape, .int taped, .int reads, .ref h_got, .ref h_failing, .ref h_past, .int undoMany, .ref h_aside, .ref h_best, .ref h_tried, .ref h_kept, .ref h_keptPast, .int keptMany, .int isKept, .ref h_sheets], arf G h_sheets 7 4 shf, oc h_sheets_x 8 [.ref h_sheets_x_r], al G h_sheets_x_r rn rw, oc h_sheets_y 8 [.ref h_sheets_y_r], al G h_sheets_y_r rn2 rw2] := hD
  refine lv_if_eq (tgt := 16) hx hb dX0_copy_5 (by decide) (fun c_2 => ?_) (fun c_2 => ?_)
  · replace hw := hw.1 c_2
    refine lv_iconst (v := (-1 : Int32)) hx hb dX0_copy_16 (by decide) ?_
    have hP9 := hP
    have hD9 := hD
    exact w_widen (k := 3) (n := 1010) (by first | exact Nat.le_of_ble_eq_true rfl | omega) (by first | exact Nat.le_of_ble_eq_true rfl | omega) (W.iret (v := (-1 : Int32)) hx hb hr (fun t ht hW => ⟨⟨(-1 : Int32), rw2, rfl, hw, by rw [ht]; exact hP9, hD9⟩, hS.F ht⟩) hS.2.2 dX0_copy_17)
  · replace hw := hw.2 c_2
    refine lv_iload_n hx hb dX0_copy_8 rfl (lv_at hl 3 rfl) ?_
    refine lv_iconst (v := (0 : Int32)) hx hb dX0_copy_9 (by decide) ?_
    have hPc := hP.sub (ws' := []) [] rfl
    have hDc := hD.sub (ws' := []) [] (by decide) rfl
    have hFc := va_free (wc := []) hD hS hA [] rfl
    refine va_calli (va_runS (As := [.int p3, .int (0 : Int32)]) (rest := []) ⟨hx, hb, hml, hown, hts⟩ (mt_X0_isSheet l G  H.size  p3 (0 : Int32) _ hw) (va_cwS 2 hts (lw_S q648 q649 q54 q650) rfl rfl rfl (by decide +kernel) ⟨Nat.le_of_ble_eq_true rfl, Nat.le_of_ble_eq_true rfl⟩) ⟨fun a U g mk q => by obtain ⟨q0, q1, qP, qK, qD⟩ := q; exact ⟨q0, q1, qP, qK.call, qD⟩, fun U hU hW => ⟨rfl, by rw [hU], by rw [hU]; exact hPc, hK.warm hW, hDc.weaken (fun _ _ _ _ => trivial)⟩⟩ rfl rfl hl.1 rfl (lv_room (Nat.le_of_ble_eq_true rfl)) dX0_copy_10 ⟨Nat.le_of_ble_eq_true rfl, Nat.le_of_ble_eq_true rfl⟩) hS (fun q _ h => hFc q h) hFc (fun r_3 _ t H1 locs ht hvm hw hB hz1 hk1 hS => ?_)
    obtain ⟨hP1, hD1⟩ := hB
    rw [ht] at hP1
    obtain ⟨hP, hD⟩ := va_join (wr := [oc h 0 [.ref h_kinds, .ref h_now, .ref h_fault, .ref h_tape, .int taped, .int reads, .ref h_got, .ref h_failing, .ref h_past, .int undoMany, .ref h_aside, .ref h_best, .ref h_tried, .ref h_kept, .ref h_keptPast, .int keptMany, .int isKept, .ref h_sheets], arf G h_sheets 7 4 shf, oc h_sheets_x 8 [.ref h_sheets_x_r], al G h_sheets_x_r rn rw, oc h_sheets_y 8 [.ref h_sheets_y_r], al G h_sheets_y_r rn2 rw2]) (w1 := []) hP hD [] [0, 1, 2, 3, 4, 5] rfl rfl (by decide) (by decide) hk1 hFc hP1 hD1
    clear hPc hDc hFc hP1 hD1 hz1 hk1 hvm
    generalize H1 = H at hP hS ⊢
    have hP : va_P G.1 gCl [oc h 0 [.ref h_kinds, .ref h_now, .ref h_fault, .ref h_tape, .int taped, .int reads, .ref h_got, .ref h_failing, .ref h_past, .int undoMany, .ref h_aside, .ref h_best, .ref h_tried, .ref h_kept, .ref h_keptPast, .int keptMany, .int isKept, .ref h_sheets], arf G h_sheets 7 4 shf, oc h_sheets_x 8 [.ref h_sheets_x_r], al G h_sheets_x_r rn rw, oc h_sheets_y 8 [.ref h_sheets_y_r], al G h_sheets_y_r rn2 rw2] H := hP
    have hD : va_D A [oc h 0 [.ref h_kinds, .ref h_now, .ref h_fault, .ref h_tape, .int taped, .int reads, .ref h_got, .ref h_failing, .ref h_past, .int undoMany, .ref h_aside, .ref h_best, .ref h_tried, .ref h_kept, .ref h_keptPast, .int keptMany, .int isKept, .ref h_sheets], arf G h_sheets 7 4 shf, oc h_sheets_x 8 [.ref h_sheets_x_r], al G h_sheets_x_r rn rw, oc h_sheets_y 8 [.ref h_sheets_y_r], al G h_sheets_y_r rn2 rw2] := hD
    refine lv_if_ne (tgt := 18) hx hb dX0_copy_13 (by decide) (fun c_4 => ?_) (fun c_4 => ?_)
    · replace hw := hw.1 c_4
      refine lv_aload_n hx hb dX0_copy_18 rfl (lv_at hl 0 rfl) ?_
      refine va_get (D := G.1) (ci := 0) (v := .ref h_sheets) (C := RX0) (T := TX0) (N := 18) hx hb hts in_X0 hown hK.1 hP 0 rfl rfl 17 (by decide) (hts _ q273) (fun _ h9 => h9) rfl dX0_copy_19 ?_
      refine lv_iload_n hx hb dX0_copy_22 rfl (lv_at hl 1 rfl) ?_
      obtain ⟨i_5, hw⟩ := hw
      refine z_aaldS hx hb hK.1 hP 1 7 rfl rfl i_5 dX0_copy_23 hsh ?_
      refine va_getN (D := G.1) (ci := 8) (v := .ref h_sheets_x_r) (C := RX8) (T := TX8) (N := 1) hx hb hts in_X8 hown hK.1 hP 2 rfl rfl 0 (by decide) (hK.n q251 rfl) (fun _ h9 => h9) rfl dX0_copy_24 ?_
      refine lv_iload_n hx hb dX0_copy_27 rfl (lv_at hl 2 rfl) ?_
      refine lv_aload_n hx hb dX0_copy_28 rfl (lv_at hl 0 rfl) ?_
      refine va_get (D := G.1) (ci := 0) (v := .ref h_sheets) (C := RX0) (T := TX0) (N := 18) hx hb hts in_X0 hown hK.1 hP 0 rfl rfl 17 (by decide) (hts _ q273) (fun _ h9 => h9) rfl dX0_copy_29 ?_
      refine lv_iload_n hx hb dX0_copy_32 rfl (lv_at hl 3 rfl) ?_
      obtain ⟨i_6, hw⟩ := hw
      refine z_aaldS hx hb hK.1 hP 1 7 rfl rfl i_6 dX0_copy_33 hsh2 ?_
      refine va_getN (D := G.1) (ci := 8) (v := .ref h_sheets_y_r) (C := RX8) (T := TX8) (N := 1) hx hb hts in_X8 hown hK.1 hP 4 rfl rfl 0 (by decide) (hK.n q251 rfl) (fun _ h9 => h9) rfl dX0_copy_34 ?_
      refine lv_iload hx hb dX0_copy_37 (lv_at hl 4 rfl) ?_
      refine lv_iload hx hb dX0_copy_39 (lv_at hl 5 rfl) ?_
      by_cases c_8 : cpOk p2 p4 p5 rn rn2
      · replace hw := hw.1 c_8
        refine z_cpL hx hb (hml.trans hl.1.symm) hown (hts _ q512) (hts _ q440) (hts _ q439) (hts _ q68) hK.1 hP hD hS 3 5 1 rfl rfl rfl rfl rfl c_8 (fun i _ => rfl) (Nat.le_of_ble_eq_true rfl) (Nat.le_of_ble_eq_true rfl) dX0_copy_41 (fun f_9 ef_9 H locs hP hD hS => ?_)
        replace hw := hw f_9 ef_9
        have hP : va_P G.1 gCl [oc h 0 [.ref h_kinds, .ref h_now, .ref h_fault, .ref h_tape, .int taped, .int reads, .ref h_got, .ref h_failing, .ref h_past, .int undoMany, .ref h_aside, .ref h_best, .ref h_tried, .ref h_kept, .ref h_keptPast, .int keptMany, .int isKept, .ref h_sheets], arf G h_sheets 7 4 shf, oc h_sheets_x 8 [.ref h_sheets_x_r], al G h_sheets_x_r rn rw, oc h_sheets_y 8 [.ref h_sheets_y_r], al G h_sheets_y_r rn2 f_9] H := hP
        have hD : va_D A [oc h 0 [.ref h_kinds, .ref h_now, .ref h_fault, .ref h_tape, .int taped, .int reads, .ref h_got, .ref h_failing, .ref h_past, .int undoMany, .ref h_aside, .ref h_best, .ref h_tried, .ref h_kept, .ref h_keptPast, .int keptMany, .int isKept, .ref h_sheets], arf G h_sheets 7 4 shf, oc h_sheets_x 8 [.ref h_sheets_x_r], al G h_sheets_x_r rn rw, oc h_sheets_y 8 [.ref h_sheets_y_r], al G h_sheets_y_r rn2 f_9] := hD
        refine lv_goto (tgt := 62) hx hb dX0_copy_44 (by decide) ?_
        refine lv_iload hx hb dX0_copy_62 (lv_at hl 5 rfl) ?_
        have hP9 := hP
        have hD9 := hD
        exact w_widen (k := 3) (n := 1010) (by first | exact Nat.le_of_ble_eq_true rfl | omega) (by first | exact Nat.le_of_ble_eq_true rfl | omega) (W.iret (v := p5) hx hb hr (fun t ht hW => ⟨⟨p5, f_9, rfl, hw, by rw [ht]; exact hP9, hD9⟩, hS.F ht⟩) hS.2.2 dX0_copy_64)
      · obtain ⟨h31, h32, hw⟩ := hw.2 c_8
        refine w_cpOut (rest := []) ⟨hx, hb, hml.trans hl.1.symm, hts, hK, hX, hS, hP, hown, hts _ q512, hts _ q440, hts _ q439, hts _ q68, dX0_copy_41, Nat.le_of_ble_eq_true rfl, Nat.le_of_ble_eq_true rfl, Nat.le_of_ble_eq_true rfl, Nat.le_of_ble_eq_true rfl, Nat.le_of_ble_eq_true rfl⟩ 3 5 1 1 rfl rfl rfl rfl h31 h32 c_8 (fun x_7 H hxo hP hS hz hk => ?_)
        obtain ⟨ce, hce, hcv, hcc⟩ := hxo
        obtain ⟨c1, cT, hc1, hcT, hfit⟩ := Cond.castable_spec (args := #[]) (hK.n (args := #[]) q1127 rfl)
        cases hc1.symm.trans hcc
        refine wx_catch (cell := ce) hce (by rw [hcv]; rfl) [⟨18, 44, 47, 354⟩, ⟨18, 44, 52, 360⟩] ⟨18, 44, 57, 362⟩ [] hhd (fun pl hpl z hz => (List.forall_mem_cons.mpr ⟨x_pass (z := ⟨18, 44, 47, 354⟩) (by decide) (by decide) hown (hts _ q734) (hK.2.2 ("java/lang/ArrayIndexOutOfBoundsException", "java/lang/NullPointerException") (by decide +kernel)) hcc pl hpl, (List.forall_mem_cons.mpr ⟨x_pass (z := ⟨18, 44, 52, 360⟩) (by decide) (by decide) hown (hts _ q796) (hK.2.2 ("java/lang/ArrayIndexOutOfBoundsException", "java/lang/ArrayStoreException") (by decide +kernel)) hcc pl hpl, fun _ h9 => absurd h9 List.not_mem_nil⟩)⟩) z hz) (by decide) (by decide) hown (hts _ q810) (cT := cT) hcT hfit ?_
        refine lv_astore (lv' := [(6, .ref x_7), (0, .ref h), (1, .int p1), (2, .int p2), (3, .int p3), (4, .int p4), (5, .int p5)]) hx hb dX0_copy_57 hl (by decide) rfl (fun ls hl => ?_)
        refine lv_bipush (v := (-13 : Int32)) hx hb dX0_copy_59 (by decide) ?_
        have hP9 := hP
        have hD9 := hD
        exact w_widen (k := 3) (n := 1010) (by first | exact Nat.le_of_ble_eq_true rfl | omega) (by first | exact Nat.le_of_ble_eq_true rfl | omega) (W.iret (v := (-13 : Int32)) hx hb hr (fun t ht hW => ⟨⟨(-13 : Int32), rw2, rfl, hw, by rw [ht]; exact hP9, hD9⟩, hS.F ht⟩) hS.2.2 dX0_copy_61)
    · replace hw := hw.2 c_4
      refine lv_iconst (v := (-1 : Int32)) hx hb dX0_copy_16 (by decide) ?_
      have hP9 := hP
      have hD9 := hD
      exact w_widen (k := 3) (n := 1010) (by first | exact Nat.le_of_ble_eq_true rfl | omega) (by first | exact Nat.le_of_ble_eq_true rfl | omega) (W.iret (v := (-1 : Int32)) hx hb hr (fun t ht hW => ⟨⟨(-1 : Int32), rw2, rfl, hw, by rw [ht]; exact hP9, hD9⟩, hS.F ht⟩) hS.2.2 dX0_copy_17)
/-! BattleBench.copy(IIIII)I -/
def wp_X0_copy_JN (rn : Nat) (rw : Nat → Int64) (p1 : Int32) (p2 : Int32) (p3 : Int32) (p4 : Int32) (p5 : Int32) (Q : Int32 → Prop) : Prop :=
  wp_X0_isSheet  p1 (0 : Int32) (fun r_1 => (((r_1 = 0) → Q (-1 : Int32)) ∧ (¬ (r_1 = 0) → wp_X0_isSheet  p3 (0 : Int32) (fun r_3 => ((¬ (r_3 = 0) → (vp_in p1 4 ∧ (vp_in p3 4 ∧ Q (-11 : Int32)))) ∧ ((r_3 = 0) → Q (-1 : Int32)))))))
set_option maxHeartbeats 4000000 in
theorem mt_X0_copy_JN (l : Launch) (G : GT) (aS : Nat) (hfl : l.flags = pinnedFlags ++ [noTraceFlag]) (h h_kinds h_now h_fault h_tape h_got h_failing h_past h_aside h_best h_tried h_kept h_keptPast h_sheets h_sheets_x h_sheets_x_r h_sheets_y : Nat) (shf : Nat → Option Nat) (sz : Nat) (taped : Int32) (reads : Int32) (undoMany : Int32) (keptMany : Int32) (isKept : Int32) (rn : Nat) (rw : Nat → Int64) (p1 : Int32) (p2 : Int32) (p3 : Int32) (p4 : Int32) (p5 : Int32)(hsh : shf p1.toNatClampNeg = some h_sheets_x) (hsh2 : shf p3.toNatClampNeg = some h_sheets_y) (Q : Int32 → Prop) (hw : wp_X0_copy_JN rn rw p1 p2 p3 p4 p5 Q) : Met l yX0_copy (wsW_ yX0_copy cX0_copy 7 (some .int) [(18, 44, 47, 354), (18, 44, 52, 360), (18, 44, 57, 362)]) ({ frames := 9, cells := 3, slots := 1010, locals := 10248 } : Room) (va_Pc [.ref h, .int p1, .int p2, .int p3, .int p4, .int p5] (fun U => U.heap.size = sz ∧ va_P G.1 gCl [oc h 0 [.ref h_kinds, .ref h_now, .ref h_fault, .ref h_tape, .int taped, .int reads, .ref h_got, .ref h_failing, .ref h_past, .int undoMany, .ref h_aside, .ref h_best, .ref h_tried, .ref h_kept, .ref h_keptPast, .int keptMany, .int isKept, .ref h_sheets], arf G h_sheets 7 4 shf, oc h_sheets_x 8 [.ref h_sheets_x_r], al G h_sheets_x_r rn rw, oc h_sheets_y 8 [.null]] U.heap ∧ gK G U ∧ va_D (fun _ => True) [oc h 0 [.ref h_kinds, .ref h_now, .ref h_fault, .ref h_tape, .int taped, .int reads, .ref h_got, .ref h_failing, .ref h_past, .int undoMany, .ref h_aside, .ref h_best, .ref h_tried, .ref h_kept, .ref h_keptPast, .int keptMany, .int isKept, .ref h_sheets], arf G h_sheets 7 4 shf, oc h_sheets_x 8 [.ref h_sheets_x_r], al G h_sheets_x_r rn rw, oc h_sheets_y 8 [.null]] ∧ stS aS U)) ((fun A => (va_Qi (fun (r : Int32) (u : Unit) => Q r ) (fun u t => va_P G.1 gCl [oc h 0 [.ref h_kinds, .ref h_now, .ref h_fault, .ref h_tape, .int taped, .int reads, .ref h_got, .ref h_failing, .ref h_past, .int undoMany, .ref h_aside, .ref h_best, .ref h_tried, .ref h_kept, .ref h_keptPast, .int keptMany, .int isKept, .ref h_sheets], arf G h_sheets 7 4 shf, oc h_sheets_x 8 [.ref h_sheets_x_r], al G h_sheets_x_r rn rw, oc h_sheets_y 8 [.null]] t.heap ∧ va_D A [oc h 0 [.ref h_kinds, .ref h_now, .ref h_fault, .ref h_tape, .int taped, .int reads, .ref h_got, .ref h_failing, .ref h_past, .int undoMany, .ref h_aside, .ref h_best, .ref h_tried, .ref h_kept, .ref h_keptPast, .int keptMany, .int isKept, .ref h_sheets], arf G h_sheets 7 4 shf, oc h_sheets_x 8 [.ref h_sheets_x_r], al G h_sheets_x_r rn rw, oc h_sheets_y 8 [.null]]) A)) (va_A [oc h 0 [.ref h_kinds, .ref h_now, .ref h_fault, .ref h_tape, .int taped, .int reads, .ref h_got, .ref h_failing, .ref h_past, .int undoMany, .ref h_aside, .ref h_best, .ref h_tried, .ref h_kept, .ref h_keptPast, .int keptMany, .int isKept, .ref h_sheets], arf G h_sheets 7 4 shf, oc h_sheets_x 8 [.ref h_sheets_x_r], al G h_sheets_x_r rn rw, oc h_sheets_y 8 [.null]] sz)) 3 1010 (va_A [oc h 0 [.ref h_kinds, .ref h_now, .ref h_fault, .ref h_tape, .int taped, .int reads, .ref h_got, .ref h_failing, .ref h_past, .int undoMany, .ref h_aside, .ref h_best, .ref h_tried, .ref h_kept, .ref h_keptPast, .int keptMany, .int isKept, .ref h_sheets], arf G h_sheets 7 4 shf, oc h_sheets_x 8 [.ref h_sheets_x_r], al G h_sheets_x_r rn rw, oc h_sheets_y 8 [.null]] sz) := by
  refine va_MetW (hh := [(18, 44, 47, 354), (18, 44, 52, 360), (18, 44, 57, 362)]) (cc := cX0_copy) (maxL := 7) (ret := (some .int)) (by decide) rfl ?_
  intro p e s m args below meth c s₁ B hml hv
  obtain ⟨rfl, hsz, hP, hK, hD0, hst⟩ := hv
  have hx := B.exec
  have hb := B.bytes
  have hr := B.returns
  have hts := atoms_spec (ws := (wsW_ yX0_copy cX0_copy 7 (some .int) [(18, 44, 47, 354), (18, 44, 52, 360), (18, 44, 57, 362)])) B.pre
  have hts : ∀ w ∈ lw_all, w.before _ s = true := fun w h => hts w (List.mem_cons_of_mem _ h)
  have hown : s.vm.findClass RX0 = some m.cls := findClass_of_methodNamed B.named
  have hlocks := B.notSynchronized
  have hhd : c.exceptionTable.toList = [⟨18, 44, 47, 354⟩, ⟨18, 44, 52, 360⟩, ⟨18, 44, 57, 362⟩] := x_hand B (atoms_spec (ws := (wsW_ yX0_copy cX0_copy 7 (some .int) [(18, 44, 47, 354), (18, 44, 52, 360), (18, 44, 57, 362)])) B.pre _ List.mem_cons_self)
  subst hsz
  have hD := hD0.self (sz := s.heap.size)
  generalize hAe : va_A [oc h 0 [.ref h_kinds, .ref h_now, .ref h_fault, .ref h_tape, .int taped, .int reads, .ref h_got, .ref h_failing, .ref h_past, .int undoMany, .ref h_aside, .ref h_best, .ref h_tried, .ref h_kept, .ref h_keptPast, .int keptMany, .int isKept, .ref h_sheets], arf G h_sheets 7 4 shf, oc h_sheets_x 8 [.ref h_sheets_x_r], al G h_sheets_x_r rn rw, oc h_sheets_y 8 [.null]] s.heap.size = A at hD ⊢
  have hA : ∀ q : Nat, s.heap.size ≤ q → A q := fun q h => by rw [← hAe]; exact Or.inr h
  have hS : va_S A s.heap s.heap [] := va_S.rf
  have hX : XCx l aS s A := ⟨hfl, hst, fun q cell hq hc => va_A.ns hP (by rw [hAe]; exact hq) hc⟩
  have C : Cx p s m meth c cX0_copy 7 (some .int) RX0 ([.ref h, .int p1, .int p2, .int p3, .int p4, .int p5] : List Value).toArray G A := ⟨hx, hb, hr, hlocks, hml, hown, hts, hK, hA⟩
  have hl := lv_entry ([.ref h, .int p1, .int p2, .int p3, .int p4, .int p5]) (n := 7) (Nat.le_of_ble_eq_true rfl)
  rw [lg_entry_eq]
  generalize (lg_sl ([.ref h, .int p1, .int p2, .int p3, .int p4, .int p5]) ++ List.replicate (7 - (lg_sl ([.ref h, .int p1, .int p2, .int p3, .int p4, .int p5])).length) Slot.unset).toArray = ls at hl ⊢
  have hl : lv_has ls 7 [(0, .ref h), (1, .int p1), (2, .int p2), (3, .int p3), (4, .int p4), (5, .int p5)] := hl
  unfold wp_X0_copy_JN at hw
  refine lv_iload_n hx hb dX0_copy_0 rfl (lv_at hl 1 rfl) ?_
  refine lv_iconst (v := (0 : Int32)) hx hb dX0_copy_1 (by decide) ?_
  have hPc := hP.sub (ws' := []) [] rfl
  have hDc := hD.sub (ws' := []) [] (by decide) rfl
  have hFc := va_free (wc := []) hD hS hA [] rfl
  refine va_calli (va_runS (As := [.int p1, .int (0 : Int32)]) (rest := []) ⟨hx, hb, hml, hown, hts⟩ (mt_X0_isSheet l G  s.heap.size  p1 (0 : Int32) _ hw) (va_cwS 2 hts (lw_S q648 q649 q54 q650) rfl rfl rfl (by decide +kernel) ⟨Nat.le_of_ble_eq_true rfl, Nat.le_of_ble_eq_true rfl⟩) ⟨fun a U g mk q => by obtain ⟨q0, q1, qP, qK, qD⟩ := q; exact ⟨q0, q1, qP, qK.call, qD⟩, fun U hU hW => ⟨rfl, by rw [hU], by rw [hU]; exact hPc, hK.warm hW, hDc.weaken (fun _ _ _ _ => trivial)⟩⟩ rfl rfl hl.1 rfl (lv_room (Nat.le_of_ble_eq_true rfl)) dX0_copy_2 ⟨Nat.le_of_ble_eq_true rfl, Nat.le_of_ble_eq_true rfl⟩) hS (fun q _ h => hFc q h) hFc (fun r_1 _ t H1 locs ht hvm hw hB hz1 hk1 hS => ?_)
  obtain ⟨hP1, hD1⟩ := hB
  rw [ht] at hP1
  obtain ⟨hP, hD⟩ := va_join (wr := [oc h 0 [.ref h_kinds, .ref h_now, .ref h_fault, .ref h_tape, .int taped, .int reads, .ref h_got, .ref h_failing, .ref h_past, .int undoMany, .ref h_aside, .ref h_best, .ref h_tried, .ref h_kept, .ref h_keptPast, .int keptMany, .int isKept, .ref h_sheets], arf G h_sheets 7 4 shf, oc h_sheets_x 8 [.ref h_sheets_x_r], al G h_sheets_x_r rn rw, oc h_sheets_y 8 [.null]]) (w1 := []) hP hD [] [0, 1, 2, 3, 4] rfl rfl (by decide) (by decide) hk1 hFc hP1 hD1
  clear hPc hDc hFc hP1 hD1 hz1 hk1 hvm
  generalize H1 = H at hP hS ⊢
  have hP : va_P G.1 gCl [oc h 0 [.ref h_kinds, .ref h_now, .ref h_fault, .ref h_tape, .int taped, .int reads, .ref h_got, .ref h_failing, .ref h_past, .int undoMany, .ref h_aside, .ref h_best, .ref h_tried, .ref h_kept, .ref h_keptPast, .int keptMany, .int isKept, .ref h_sheets], arf G h_sheets 7 4 shf, oc h_sheets_x 8 [.ref h_sheets_x_r], al G h_sheets_x_r rn rw, oc h_sheets_y 8 [.null]] H := hP
  have hD : va_D A [oc h 0 [.ref h_kinds, .ref h_now, .ref h_fault, .ref h_tape, .int taped, .int reads, .ref h_got, .ref h_failing, .ref h_past, .int undoMany, .ref h_aside, .ref h_best, .ref h_tried, .ref h_kept, .ref h_keptPast, .int keptMany, .int isKept, .ref h_sheets], arf G h_sheets 7 4 shf, oc h_sheets_x 8 [.ref h_sheets_x_r], al G h_sheets_x_r rn rw, oc h_sheets_y 8 [.null]] := hD
  refine lv_if_eq (tgt := 16) hx hb dX0_copy_5 (by decide) (fun c_2 => ?_) (fun c_2 => ?_)
  · replace hw := hw.1 c_2
    refine lv_iconst (v := (-1 : Int32)) hx hb dX0_copy_16 (by decide) ?_
    have hP9 := hP
    have hD9 := hD
    exact w_widen (k := 3) (n := 1010) (by first | exact Nat.le_of_ble_eq_true rfl | omega) (by first | exact Nat.le_of_ble_eq_true rfl | omega) (W.iret (v := (-1 : Int32)) hx hb hr (fun t ht hW => ⟨⟨(-1 : Int32), (), rfl, hw, by rw [ht]; exact hP9, hD9⟩, hS.F ht⟩) hS.2.2 dX0_copy_17)
  · replace hw := hw.2 c_2
    refine lv_iload_n hx hb dX0_copy_8 rfl (lv_at hl 3 rfl) ?_
    refine lv_iconst (v := (0 : Int32)) hx hb dX0_copy_9 (by decide) ?_
    have hPc := hP.sub (ws' := []) [] rfl
    have hDc := hD.sub (ws' := []) [] (by decide) rfl
    have hFc := va_free (wc := []) hD hS hA [] rfl
    refine va_calli (va_runS (As := [.int p3, .int (0 : Int32)]) (rest := []) ⟨hx, hb, hml, hown, hts⟩ (mt_X0_isSheet l G  H.size  p3 (0 : Int32) _ hw) (va_cwS 2 hts (lw_S q648 q649 q54 q650) rfl rfl rfl (by decide +kernel) ⟨Nat.le_of_ble_eq_true rfl, Nat.le_of_ble_eq_true rfl⟩) ⟨fun a U g mk q => by obtain ⟨q0, q1, qP, qK, qD⟩ := q; exact ⟨q0, q1, qP, qK.call, qD⟩, fun U hU hW => ⟨rfl, by rw [hU], by rw [hU]; exact hPc, hK.warm hW, hDc.weaken (fun _ _ _ _ => trivial)⟩⟩ rfl rfl hl.1 rfl (lv_room (Nat.le_of_ble_eq_true rfl)) dX0_copy_10 ⟨Nat.le_of_ble_eq_true rfl, Nat.le_of_ble_eq_true rfl⟩) hS (fun q _ h => hFc q h) hFc (fun r_3 _ t H1 locs ht hvm hw hB hz1 hk1 hS => ?_)
    obtain ⟨hP1, hD1⟩ := hB
    rw [ht] at hP1
    obtain ⟨hP, hD⟩ := va_join (wr := [oc h 0 [.ref h_kinds, .ref h_now, .ref h_fault, .ref h_tape, .int taped, .int reads, .ref h_got, .ref h_failing, .ref h_past, .int undoMany, .ref h_aside, .ref h_best, .ref h_tried, .ref h_kept, .ref h_keptPast, .int keptMany, .int isKept, .ref h_sheets], arf G h_sheets 7 4 shf, oc h_sheets_x 8 [.ref h_sheets_x_r], al G h_sheets_x_r rn rw, oc h_sheets_y 8 [.null]]) (w1 := []) hP hD [] [0, 1, 2, 3, 4] rfl rfl (by decide) (by decide) hk1 hFc hP1 hD1
    clear hPc hDc hFc hP1 hD1 hz1 hk1 hvm
    generalize H1 = H at hP hS ⊢
    have hP : va_P G.1 gCl [oc h 0 [.ref h_kinds, .ref h_now, .ref h_fault, .ref h_tape, .int taped, .int reads, .ref h_got, .ref h_failing, .ref h_past, .int undoMany, .ref h_aside, .ref h_best, .ref h_tried, .ref h_kept, .ref h_keptPast, .int keptMany, .int isKept, .ref h_sheets], arf G h_sheets 7 4 shf, oc h_sheets_x 8 [.ref h_sheets_x_r], al G h_sheets_x_r rn rw, oc h_sheets_y 8 [.null]] H := hP
    have hD : va_D A [oc h 0 [.ref h_kinds, .ref h_now, .ref h_fault, .ref h_tape, .int taped, .int reads, .ref h_got, .ref h_failing, .ref h_past, .int undoMany, .ref h_aside, .ref h_best, .ref h_tried, .ref h_kept, .ref h_keptPast, .int keptMany, .int isKept, .ref h_sheets], arf G h_sheets 7 4 shf, oc h_sheets_x 8 [.ref h_sheets_x_r], al G h_sheets_x_r rn rw, oc h_sheets_y 8 [.null]] := hD
    refine lv_if_ne (tgt := 18) hx hb dX0_copy_13 (by decide) (fun c_4 => ?_) (fun c_4 => ?_)
    · replace hw := hw.1 c_4
      refine lv_aload_n hx hb dX0_copy_18 rfl (lv_at hl 0 rfl) ?_
      refine va_get (D := G.1) (ci := 0) (v := .ref h_sheets) (C := RX0) (T := TX0) (N := 18) hx hb hts in_X0 hown hK.1 hP 0 rfl rfl 17 (by decide) (hts _ q273) (fun _ h9 => h9) rfl dX0_copy_19 ?_
      refine lv_iload_n hx hb dX0_copy_22 rfl (lv_at hl 1 rfl) ?_
      obtain ⟨i_5, hw⟩ := hw
      refine z_aaldS hx hb hK.1 hP 1 7 rfl rfl i_5 dX0_copy_23 hsh ?_
      refine va_getN (D := G.1) (ci := 8) (v := .ref h_sheets_x_r) (C := RX8) (T := TX8) (N := 1) hx hb hts in_X8 hown hK.1 hP 2 rfl rfl 0 (by decide) (hK.n q251 rfl) (fun _ h9 => h9) rfl dX0_copy_24 ?_
      refine lv_iload_n hx hb dX0_copy_27 rfl (lv_at hl 2 rfl) ?_
      refine lv_aload_n hx hb dX0_copy_28 rfl (lv_at hl 0 rfl) ?_
      refine va_get (D := G.1) (ci := 0) (v := .ref h_sheets) (C := RX0) (T := TX0) (N := 18) hx hb hts in_X0 hown hK.1 hP 0 rfl rfl 17 (by decide) (hts _ q273) (fun _ h9 => h9) rfl dX0_copy_29 ?_
      refine lv_iload_n hx hb dX0_copy_32 rfl (lv_at hl 3 rfl) ?_
      obtain ⟨i_6, hw⟩ := hw
      refine z_aaldS hx hb hK.1 hP 1 7 rfl rfl i_6 dX0_copy_33 hsh2 ?_
      refine va_getN (D := G.1) (ci := 8) (v := .null) (C := RX8) (T := TX8) (N := 1) hx hb hts in_X8 hown hK.1 hP 4 rfl rfl 0 (by decide) (hK.n q251 rfl) (fun _ h9 => h9) rfl dX0_copy_34 ?_
      refine lv_iload hx hb dX0_copy_37 (lv_at hl 4 rfl) ?_
      refine lv_iload hx hb dX0_copy_39 (lv_at hl 5 rfl) ?_
      refine w_cpNull (a := (some h_sheets_x_r)) (b := none) (rest := []) ⟨hx, hb, hml.trans hl.1.symm, hts, hK, hX, hS, hP, hown, hts _ q512, hts _ q440, hts _ q439, hts _ q68, dX0_copy_41, Nat.le_of_ble_eq_true rfl, Nat.le_of_ble_eq_true rfl, Nat.le_of_ble_eq_true rfl, Nat.le_of_ble_eq_true rfl, Nat.le_of_ble_eq_true rfl⟩ (Or.inr rfl) (fun x_7 H hxo hP hS hz hk => ?_)
      obtain ⟨ce, hce, hcv, hcc⟩ := hxo
      refine wx_catch (cell := ce) hce (by rw [hcv]; rfl) [] ⟨18, 44, 47, 354⟩ [⟨18, 44, 52, 360⟩, ⟨18, 44, 57, 362⟩] hhd (fun _ _ z hz => by cases hz) (by decide) (by decide) hown (hts _ q734) (cT := ce.cls) hcc (vm_refl (args := #[]) (hK.n q756 rfl) hcc) ?_
      refine lv_astore (lv' := [(6, .ref x_7), (0, .ref h), (1, .int p1), (2, .int p2), (3, .int p3), (4, .int p4), (5, .int p5)]) hx hb dX0_copy_47 hl (by decide) rfl (fun ls hl => ?_)
      refine lv_bipush (v := (-11 : Int32)) hx hb dX0_copy_49 (by decide) ?_
      have hP9 := hP
      have hD9 := hD
      exact w_widen (k := 3) (n := 1010) (by first | exact Nat.le_of_ble_eq_true rfl | omega) (by first | exact Nat.le_of_ble_eq_true rfl | omega) (W.iret (v := (-11 : Int32)) hx hb hr (fun t ht hW => ⟨⟨(-11 : Int32), (), rfl, hw, by rw [ht]; exact hP9, hD9⟩, hS.F ht⟩) hS.2.2 dX0_copy_51)
    · replace hw := hw.2 c_4
      refine lv_iconst (v := (-1 : Int32)) hx hb dX0_copy_16 (by decide) ?_
      have hP9 := hP
      have hD9 := hD
      exact w_widen (k := 3) (n := 1010) (by first | exact Nat.le_of_ble_eq_true rfl | omega) (by first | exact Nat.le_of_ble_eq_true rfl | omega) (W.iret (v := (-1 : Int32)) hx hb hr (fun t ht hW => ⟨⟨(-1 : Int32), (), rfl, hw, by rw [ht]; exact hP9, hD9⟩, hS.F ht⟩) hS.2.2 dX0_copy_17)
/-! BattleBench.copy(IIIII)I -/
def wp_X0_copy_Je (rn : Nat) (rw : Nat → Int64) (p1 : Int32) (p2 : Int32) (p3 : Int32) (p4 : Int32) (p5 : Int32) (Q : Int32 → ((Nat → Int64)) → Prop) : Prop :=
  wp_X0_isSheet  p1 (0 : Int32) (fun r_1 => (((r_1 = 0) → Q (-1 : Int32) rw) ∧ (¬ (r_1 = 0) → wp_X0_isSheet  p3 (0 : Int32) (fun r_3 => ((¬ (r_3 = 0) → (vp_in p1 4 ∧ (vp_in p3 4 ∧ ((cpOk p2 p4 p5 rn rn → ∀ f_9 : Nat → Int64, f_9 = va_cpy rw rw p2.toNatClampNeg p4.toNatClampNeg p5.toNatClampNeg → Q p5 f_9) ∧ (¬ cpOk p2 p4 p5 rn rn → (rn < 2147483648 ∧ rn < 2147483648 ∧ Q (-13 : Int32) rw)))))) ∧ ((r_3 = 0) → Q (-1 : Int32) rw))))))
set_option maxHeartbeats 4000000 in
theorem mt_X0_copy_Je (l : Launch) (G : GT) (aS : Nat) (hfl : l.flags = pinnedFlags ++ [noTraceFlag]) (h h_kinds h_now h_fault h_tape h_got h_failing h_past h_aside h_best h_tried h_kept h_keptPast h_sheets h_sheets_x h_sheets_x_r : Nat) (shf : Nat → Option Nat) (sz : Nat) (taped : Int32) (reads : Int32) (undoMany : Int32) (keptMany : Int32) (isKept : Int32) (rn : Nat) (rw : Nat → Int64) (p1 : Int32) (p2 : Int32) (p3 : Int32) (p4 : Int32) (p5 : Int32)(hsh : shf p1.toNatClampNeg = some h_sheets_x) (hsh2 : shf p3.toNatClampNeg = some h_sheets_x) (Q : Int32 → ((Nat → Int64)) → Prop) (hw : wp_X0_copy_Je rn rw p1 p2 p3 p4 p5 Q) : Met l yX0_copy (wsW_ yX0_copy cX0_copy 7 (some .int) [(18, 44, 47, 354), (18, 44, 52, 360), (18, 44, 57, 362)]) ({ frames := 9, cells := 3, slots := 1010, locals := 10248 } : Room) (va_Pc [.ref h, .int p1, .int p2, .int p3, .int p4, .int p5] (fun U => U.heap.size = sz ∧ va_P G.1 gCl [oc h 0 [.ref h_kinds, .ref h_now, .ref h_fault, .ref h_tape, .int taped, .int reads, .ref h_got, .ref h_failing, .ref h_past, .int undoMany, .ref h_aside, .ref h_best, .ref h_tried, .ref h_kept, .ref h_keptPast, .int keptMany, .int isKept, .ref h_sheets], arf G h_sheets 7 4 shf, oc h_sheets_x 8 [.ref h_sheets_x_r], al G h_sheets_x_r rn rw] U.heap ∧ gK G U ∧ va_D (fun _ => True) [oc h 0 [.ref h_kinds, .ref h_now, .ref h_fault, .ref h_tape, .int taped, .int reads, .ref h_got, .ref h_failing, .ref h_past, .int undoMany, .ref h_aside, .ref h_best, .ref h_tried, .ref h_kept, .ref h_keptPast, .int keptMany, .int isKept, .ref h_sheets], arf G h_sheets 7 4 shf, oc h_sheets_x 8 [.ref h_sheets_x_r], al G h_sheets_x_r rn rw] ∧ stS aS U)) ((fun A => (va_Qi (fun (r : Int32) (u : (Nat → Int64)) => Q r u) (fun u t => va_P G.1 gCl [oc h 0 [.ref h_kinds, .ref h_now, .ref h_fault, .ref h_tape, .int taped, .int reads, .ref h_got, .ref h_failing, .ref h_past, .int undoMany, .ref h_aside, .ref h_best, .ref h_tried, .ref h_kept, .ref h_keptPast, .int keptMany, .int isKept, .ref h_sheets], arf G h_sheets 7 4 shf, oc h_sheets_x 8 [.ref h_sheets_x_r], al G h_sheets_x_r rn u] t.heap ∧ va_D A [oc h 0 [.ref h_kinds, .ref h_now, .ref h_fault, .ref h_tape, .int taped, .int reads, .ref h_got, .ref h_failing, .ref h_past, .int undoMany, .ref h_aside, .ref h_best, .ref h_tried, .ref h_kept, .ref h_keptPast, .int keptMany, .int isKept, .ref h_sheets], arf G h_sheets 7 4 shf, oc h_sheets_x 8 [.ref h_sheets_x_r], al G h_sheets_x_r rn u]) A)) (va_A [oc h 0 [.ref h_kinds, .ref h_now, .ref h_fault, .ref h_tape, .int taped, .int reads, .ref h_got, .ref h_failing, .ref h_past, .int undoMany, .ref h_aside, .ref h_best, .ref h_tried, .ref h_kept, .ref h_keptPast, .int keptMany, .int isKept, .ref h_sheets], arf G h_sheets 7 4 shf, oc h_sheets_x 8 [.ref h_sheets_x_r], al G h_sheets_x_r rn rw] sz)) 3 1010 (va_A [oc h 0 [.ref h_kinds, .ref h_now, .ref h_fault, .ref h_tape, .int taped, .int reads, .ref h_got, .ref h_failing, .ref h_past, .int undoMany, .ref h_aside, .ref h_best, .ref h_tried, .ref h_kept, .ref h_keptPast, .int keptMany, .int isKept, .ref h_sheets], arf G h_sheets 7 4 shf, oc h_sheets_x 8 [.ref h_sheets_x_r], al G h_sheets_x_r rn rw] sz) := by
  refine va_MetW (hh := [(18, 44, 47, 354), (18, 44, 52, 360), (18, 44, 57, 362)]) (cc := cX0_copy) (maxL := 7) (ret := (some .int)) (by decide) rfl ?_
  intro p e s m args below meth c s₁ B hml hv
  obtain ⟨rfl, hsz, hP, hK, hD0, hst⟩ := hv
  have hx := B.exec
  have hb := B.bytes
  have hr := B.returns
  have hts := atoms_spec (ws := (wsW_ yX0_copy cX0_copy 7 (some .int) [(18, 44, 47, 354), (18, 44, 52, 360), (18, 44, 57, 362)])) B.pre
  have hts : ∀ w ∈ lw_all, w.before _ s = true := fun w h => hts w (List.mem_cons_of_mem _ h)
  have hown : s.vm.findClass RX0 = some m.cls := findClass_of_methodNamed B.named
  have hlocks := B.notSynchronized
  have hhd : c.exceptionTable.toList = [⟨18, 44, 47, 354⟩, ⟨18, 44, 52, 360⟩, ⟨18, 44, 57, 362⟩] := x_hand B (atoms_spec (ws := (wsW_ yX0_copy cX0_copy 7 (some .int) [(18, 44, 47, 354), (18, 44, 52, 360), (18, 44, 57, 362)])) B.pre _ List.mem_cons_self)
  subst hsz
  have hD := hD0.self (sz := s.heap.size)
  generalize hAe : va_A [oc h 0 [.ref h_kinds, .ref h_now, .ref h_fault, .ref h_tape, .int taped, .int reads, .ref h_got, .ref h_failing, .ref h_past, .int undoMany, .ref h_aside, .ref h_best, .ref h_tried, .ref h_kept, .ref h_keptPast, .int keptMany, .int isKept, .ref h_sheets], arf G h_sheets 7 4 shf, oc h_sheets_x 8 [.ref h_sheets_x_r], al G h_sheets_x_r rn rw] s.heap.size = A at hD ⊢
  have hA : ∀ q : Nat, s.heap.size ≤ q → A q := fun q h => by rw [← hAe]; exact Or.inr h
  have hS : va_S A s.heap s.heap [] := va_S.rf
  have hX : XCx l aS s A := ⟨hfl, hst, fun q cell hq hc => va_A.ns hP (by rw [hAe]; exact hq) hc⟩
  have C : Cx p s m meth c cX0_copy 7 (some .int) RX0 ([.ref h, .int p1, .int p2, .int p3, .int p4, .int p5] : List Value).toArray G A := ⟨hx, hb, hr, hlocks, hml, hown, hts, hK, hA⟩
  have hl := lv_entry ([.ref h, .int p1, .int p2, .int p3, .int p4, .int p5]) (n := 7) (Nat.le_of_ble_eq_true rfl)
  rw [lg_entry_eq]
  generalize (lg_sl ([.ref h, .int p1, .int p2, .int p3, .int p4, .int p5]) ++ List.replicate (7 - (lg_sl ([.ref h, .int p1, .int p2, .int p3, .int p4, .int p5])).length) Slot.unset).toArray = ls at hl ⊢
  have hl : lv_has ls 7 [(0, .ref h), (1, .int p1), (2, .int p2), (3, .int p3), (4, .int p4), (5, .int p5)] := hl
  unfold wp_X0_copy_Je at hw
  refine lv_iload_n hx hb dX0_copy_0 rfl (lv_at hl 1 rfl) ?_
  refine lv_iconst (v := (0 : Int32)) hx hb dX0_copy_1 (by decide) ?_
  have hPc := hP.sub (ws' := []) [] rfl
  have hDc := hD.sub (ws' := []) [] (by decide) rfl
  have hFc := va_free (wc := []) hD hS hA [] rfl
  refine va_calli (va_runS (As := [.int p1, .int (0 : Int32)]) (rest := []) ⟨hx, hb, hml, hown, hts⟩ (mt_X0_isSheet l G  s.heap.size  p1 (0 : Int32) _ hw) (va_cwS 2 hts (lw_S q648 q649 q54 q650) rfl rfl rfl (by decide +kernel) ⟨Nat.le_of_ble_eq_true rfl, Nat.le_of_ble_eq_true rfl⟩) ⟨fun a U g mk q => by obtain ⟨q0, q1, qP, qK, qD⟩ := q; exact ⟨q0, q1, qP, qK.call, qD⟩, fun U hU hW => ⟨rfl, by rw [hU], by rw [hU]; exact hPc, hK.warm hW, hDc.weaken (fun _ _ _ _ => trivial)⟩⟩ rfl rfl hl.1 rfl (lv_room (Nat.le_of_ble_eq_true rfl)) dX0_copy_2 ⟨Nat.le_of_ble_eq_true rfl, Nat.le_of_ble_eq_true rfl⟩) hS (fun q _ h => hFc q h) hFc (fun r_1 _ t H1 locs ht hvm hw hB hz1 hk1 hS => ?_)
  obtain ⟨hP1, hD1⟩ := hB
  rw [ht] at hP1
  obtain ⟨hP, hD⟩ := va_join (wr := [oc h 0 [.ref h_kinds, .ref h_now, .ref h_fault, .ref h_tape, .int taped, .int reads, .ref h_got, .ref h_failing, .ref h_past, .int undoMany, .ref h_aside, .ref h_best, .ref h_tried, .ref h_kept, .ref h_keptPast, .int keptMany, .int isKept, .ref h_sheets], arf G h_sheets 7 4 shf, oc h_sheets_x 8 [.ref h_sheets_x_r], al G h_sheets_x_r rn rw]) (w1 := []) hP hD [] [0, 1, 2, 3] rfl rfl (by decide) (by decide) hk1 hFc hP1 hD1
  clear hPc hDc hFc hP1 hD1 hz1 hk1 hvm
  generalize H1 = H at hP hS ⊢
  have hP : va_P G.1 gCl [oc h 0 [.ref h_kinds, .ref h_now, .ref h_fault, .ref h_tape, .int taped, .int reads, .ref h_got, .ref h_failing, .ref h_past, .int undoMany, .ref h_aside, .ref h_best, .ref h_tried, .ref h_kept, .ref h_keptPast, .int keptMany, .int isKept, .ref h_sheets], arf G h_sheets 7 4 shf, oc h_sheets_x 8 [.ref h_sheets_x_r], al G h_sheets_x_r rn rw] H := hP
  have hD : va_D A [oc h 0 [.ref h_kinds, .ref h_now, .ref h_fault, .ref h_tape, .int taped, .int reads, .ref h_got, .ref h_failing, .ref h_past, .int undoMany, .ref h_aside, .ref h_best, .ref h_tried, .ref h_kept, .ref h_keptPast, .int keptMany, .int isKept, .ref h_sheets], arf G h_sheets 7 4 shf, oc h_sheets_x 8 [.ref h_sheets_x_r], al G h_sheets_x_r rn rw] := hD
  refine lv_if_eq (tgt := 16) hx hb dX0_copy_5 (by decide) (fun c_2 => ?_) (fun c_2 => ?_)
  · replace hw := hw.1 c_2
    refine lv_iconst (v := (-1 : Int32)) hx hb dX0_copy_16 (by decide) ?_
    have hP9 := hP
    have hD9 := hD
    exact w_widen (k := 3) (n := 1010) (by first | exact Nat.le_of_ble_eq_true rfl | omega) (by first | exact Nat.le_of_ble_eq_true rfl | omega) (W.iret (v := (-1 : Int32)) hx hb hr (fun t ht hW => ⟨⟨(-1 : Int32), rw, rfl, hw, by rw [ht]; exact hP9, hD9⟩, hS.F ht⟩) hS.2.2 dX0_copy_17)
  · replace hw := hw.2 c_2
    refine lv_iload_n hx hb dX0_copy_8 rfl (lv_at hl 3 rfl) ?_
    refine lv_iconst (v := (0 : Int32)) hx hb dX0_copy_9 (by decide) ?_
    have hPc := hP.sub (ws' := []) [] rfl
    have hDc := hD.sub (ws' := []) [] (by decide) rfl
    have hFc := va_free (wc := []) hD hS hA [] rfl
    refine va_calli (va_runS (As := [.int p3, .int (0 : Int32)]) (rest := []) ⟨hx, hb, hml, hown, hts⟩ (mt_X0_isSheet l G  H.size  p3 (0 : Int32) _ hw) (va_cwS 2 hts (lw_S q648 q649 q54 q650) rfl rfl rfl (by decide +kernel) ⟨Nat.le_of_ble_eq_true rfl, Nat.le_of_ble_eq_true rfl⟩) ⟨fun a U g mk q => by obtain ⟨q0, q1, qP, qK, qD⟩ := q; exact ⟨q0, q1, qP, qK.call, qD⟩, fun U hU hW => ⟨rfl, by rw [hU], by rw [hU]; exact hPc, hK.warm hW, hDc.weaken (fun _ _ _ _ => trivial)⟩⟩ rfl rfl hl.1 rfl (lv_room (Nat.le_of_ble_eq_true rfl)) dX0_copy_10 ⟨Nat.le_of_ble_eq_true rfl, Nat.le_of_ble_eq_true rfl⟩) hS (fun q _ h => hFc q h) hFc (fun r_3 _ t H1 locs ht hvm hw hB hz1 hk1 hS => ?_)
    obtain ⟨hP1, hD1⟩ := hB
    rw [ht] at hP1
    obtain ⟨hP, hD⟩ := va_join (wr := [oc h 0 [.ref h_kinds, .ref h_now, .ref h_fault, .ref h_tape, .int taped, .int reads, .ref h_got, .ref h_failing, .ref h_past, .int undoMany, .ref h_aside, .ref h_best, .ref h_tried, .ref h_kept, .ref h_keptPast, .int keptMany, .int isKept, .ref h_sheets], arf G h_sheets 7 4 shf, oc h_sheets_x 8 [.ref h_sheets_x_r], al G h_sheets_x_r rn rw]) (w1 := []) hP hD [] [0, 1, 2, 3] rfl rfl (by decide) (by decide) hk1 hFc hP1 hD1
    clear hPc hDc hFc hP1 hD1 hz1 hk1 hvm
    generalize H1 = H at hP hS ⊢
    have hP : va_P G.1 gCl [oc h 0 [.ref h_kinds, .ref h_now, .ref h_fault, .ref h_tape, .int taped, .int reads, .ref h_got, .ref h_failing, .ref h_past, .int undoMany, .ref h_aside, .ref h_best, .ref h_tried, .ref h_kept, .ref h_keptPast, .int keptMany, .int isKept, .ref h_sheets], arf G h_sheets 7 4 shf, oc h_sheets_x 8 [.ref h_sheets_x_r], al G h_sheets_x_r rn rw] H := hP
    have hD : va_D A [oc h 0 [.ref h_kinds, .ref h_now, .ref h_fault, .ref h_tape, .int taped, .int reads, .ref h_got, .ref h_failing, .ref h_past, .int undoMany, .ref h_aside, .ref h_best, .ref h_tried, .ref h_kept, .ref h_keptPast, .int keptMany, .int isKept, .ref h_sheets], arf G h_sheets 7 4 shf, oc h_sheets_x 8 [.ref h_sheets_x_r], al G h_sheets_x_r rn rw] := hD
    refine lv_if_ne (tgt := 18) hx hb dX0_copy_13 (by decide) (fun c_4 => ?_) (fun c_4 => ?_)
    · replace hw := hw.1 c_4
      refine lv_aload_n hx hb dX0_copy_18 rfl (lv_at hl 0 rfl) ?_
      refine va_get (D := G.1) (ci := 0) (v := .ref h_sheets) (C := RX0) (T := TX0) (N := 18) hx hb hts in_X0 hown hK.1 hP 0 rfl rfl 17 (by decide) (hts _ q273) (fun _ h9 => h9) rfl dX0_copy_19 ?_
      refine lv_iload_n hx hb dX0_copy_22 rfl (lv_at hl 1 rfl) ?_
      obtain ⟨i_5, hw⟩ := hw
      refine z_aaldS hx hb hK.1 hP 1 7 rfl rfl i_5 dX0_copy_23 hsh ?_
      refine va_getN (D := G.1) (ci := 8) (v := .ref h_sheets_x_r) (C := RX8) (T := TX8) (N := 1) hx hb hts in_X8 hown hK.1 hP 2 rfl rfl 0 (by decide) (hK.n q251 rfl) (fun _ h9 => h9) rfl dX0_copy_24 ?_
      refine lv_iload_n hx hb dX0_copy_27 rfl (lv_at hl 2 rfl) ?_
      refine lv_aload_n hx hb dX0_copy_28 rfl (lv_at hl 0 rfl) ?_
      refine va_get (D := G.1) (ci := 0) (v := .ref h_sheets) (C := RX0) (T := TX0) (N := 18) hx hb hts in_X0 hown hK.1 hP 0 rfl rfl 17 (by decide) (hts _ q273) (fun _ h9 => h9) rfl dX0_copy_29 ?_
      refine lv_iload_n hx hb dX0_copy_32 rfl (lv_at hl 3 rfl) ?_
      obtain ⟨i_6, hw⟩ := hw
      refine z_aaldS hx hb hK.1 hP 1 7 rfl rfl i_6 dX0_copy_33 hsh2 ?_
      refine va_getN (D := G.1) (ci := 8) (v := .ref h_sheets_x_r) (C := RX8) (T := TX8) (N := 1) hx hb hts in_X8 hown hK.1 hP 2 rfl rfl 0 (by decide) (hK.n q251 rfl) (fun _ h9 => h9) rfl dX0_copy_34 ?_
      refine lv_iload hx hb dX0_copy_37 (lv_at hl 4 rfl) ?_
      refine lv_iload hx hb dX0_copy_39 (lv_at hl 5 rfl) ?_
      by_cases c_8 : cpOk p2 p4 p5 rn rn
      · replace hw := hw.1 c_8
        refine z_cpL hx hb (hml.trans hl.1.symm) hown (hts _ q512) (hts _ q440) (hts _ q439) (hts _ q68) hK.1 hP hD hS 3 3 1 rfl rfl rfl rfl rfl c_8 (fun i _ => rfl) (Nat.le_of_ble_eq_true rfl) (Nat.le_of_ble_eq_true rfl) dX0_copy_41 (fun f_9 ef_9 H locs hP hD hS => ?_)
        replace hw := hw f_9 ef_9
        have hP : va_P G.1 gCl [oc h 0 [.ref h_kinds, .ref h_now, .ref h_fault, .ref h_tape, .int taped, .int reads, .ref h_got, .ref h_failing, .ref h_past, .int undoMany, .ref h_aside, .ref h_best, .ref h_tried, .ref h_kept, .ref h_keptPast, .int keptMany, .int isKept, .ref h_sheets], arf G h_sheets 7 4 shf, oc h_sheets_x 8 [.ref h_sheets_x_r], al G h_sheets_x_r rn f_9] H := hP
        have hD : va_D A [oc h 0 [.ref h_kinds, .ref h_now, .ref h_fault, .ref h_tape, .int taped, .int reads, .ref h_got, .ref h_failing, .ref h_past, .int undoMany, .ref h_aside, .ref h_best, .ref h_tried, .ref h_kept, .ref h_keptPast, .int keptMany, .int isKept, .ref h_sheets], arf G h_sheets 7 4 shf, oc h_sheets_x 8 [.ref h_sheets_x_r], al G h_sheets_x_r rn f_9] := hD
        refine lv_goto (tgt := 62) hx hb dX0_copy_44 (by decide) ?_
        refine lv_iload hx hb dX0_copy_62 (lv_at hl 5 rfl) ?_
        have hP9 := hP
        have hD9 := hD
        exact w_widen (k := 3) (n := 1010) (by first | exact Nat.le_of_ble_eq_true rfl | omega) (by first | exact Nat.le_of_ble_eq_true rfl | omega) (W.iret (v := p5) hx hb hr (fun t ht hW => ⟨⟨p5, f_9, rfl, hw, by rw [ht]; exact hP9, hD9⟩, hS.F ht⟩) hS.2.2 dX0_copy_64)
      · obtain ⟨h31, h32, hw⟩ := hw.2 c_8
        refine w_cpOut (rest := []) ⟨hx, hb, hml.trans hl.1.symm, hts, hK, hX, hS, hP, hown, hts _ q512, hts _ q440, hts _ q439, hts _ q68, dX0_copy_41, Nat.le_of_ble_eq_true rfl, Nat.le_of_ble_eq_true rfl, Nat.le_of_ble_eq_true rfl, Nat.le_of_ble_eq_true rfl, Nat.le_of_ble_eq_true rfl⟩ 3 3 1 1 rfl rfl rfl rfl h31 h32 c_8 (fun x_7 H hxo hP hS hz hk => ?_)
        obtain ⟨ce, hce, hcv, hcc⟩ := hxo
        obtain ⟨c1, cT, hc1, hcT, hfit⟩ := Cond.castable_spec (args := #[]) (hK.n (args := #[]) q1127 rfl)
        cases hc1.symm.trans hcc
        refine wx_catch (cell := ce) hce (by rw [hcv]; rfl) [⟨18, 44, 47, 354⟩, ⟨18, 44, 52, 360⟩] ⟨18, 44, 57, 362⟩ [] hhd (fun pl hpl z hz => (List.forall_mem_cons.mpr ⟨x_pass (z := ⟨18, 44, 47, 354⟩) (by decide) (by decide) hown (hts _ q734) (hK.2.2 ("java/lang/ArrayIndexOutOfBoundsException", "java/lang/NullPointerException") (by decide +kernel)) hcc pl hpl, (List.forall_mem_cons.mpr ⟨x_pass (z := ⟨18, 44, 52, 360⟩) (by decide) (by decide) hown (hts _ q796) (hK.2.2 ("java/lang/ArrayIndexOutOfBoundsException", "java/lang/ArrayStoreException") (by decide +kernel)) hcc pl hpl, fun _ h9 => absurd h9 List.not_mem_nil⟩)⟩) z hz) (by decide) (by decide) hown (hts _ q810) (cT := cT) hcT hfit ?_
        refine lv_astore (lv' := [(6, .ref x_7), (0, .ref h), (1, .int p1), (2, .int p2), (3, .int p3), (4, .int p4), (5, .int p5)]) hx hb dX0_copy_57 hl (by decide) rfl (fun ls hl => ?_)
        refine lv_bipush (v := (-13 : Int32)) hx hb dX0_copy_59 (by decide) ?_
        have hP9 := hP
        have hD9 := hD
        exact w_widen (k := 3) (n := 1010) (by first | exact Nat.le_of_ble_eq_true rfl | omega) (by first | exact Nat.le_of_ble_eq_true rfl | omega) (W.iret (v := (-13 : Int32)) hx hb hr (fun t ht hW => ⟨⟨(-13 : Int32), rw, rfl, hw, by rw [ht]; exact hP9, hD9⟩, hS.F ht⟩) hS.2.2 dX0_copy_61)
    · replace hw := hw.2 c_4
      refine lv_iconst (v := (-1 : Int32)) hx hb dX0_copy_16 (by decide) ?_
      have hP9 := hP
      have hD9 := hD
      exact w_widen (k := 3) (n := 1010) (by first | exact Nat.le_of_ble_eq_true rfl | omega) (by first | exact Nat.le_of_ble_eq_true rfl | omega) (W.iret (v := (-1 : Int32)) hx hb hr (fun t ht hW => ⟨⟨(-1 : Int32), rw, rfl, hw, by rw [ht]; exact hP9, hD9⟩, hS.F ht⟩) hS.2.2 dX0_copy_17)
/-! BattleBench.copy(IIIII)I -/
def wp_X0_copy_NB (rn2 : Nat) (rw2 : Nat → Int32) (p1 : Int32) (p2 : Int32) (p3 : Int32) (p4 : Int32) (p5 : Int32) (Q : Int32 → Prop) : Prop :=
  wp_X0_isSheet  p1 (0 : Int32) (fun r_1 => (((r_1 = 0) → Q (-1 : Int32)) ∧ (¬ (r_1 = 0) → wp_X0_isSheet  p3 (0 : Int32) (fun r_3 => ((¬ (r_3 = 0) → (vp_in p1 4 ∧ (vp_in p3 4 ∧ Q (-11 : Int32)))) ∧ ((r_3 = 0) → Q (-1 : Int32)))))))
set_option maxHeartbeats 4000000 in
theorem mt_X0_copy_NB (l : Launch) (G : GT) (aS : Nat) (hfl : l.flags = pinnedFlags ++ [noTraceFlag]) (h h_kinds h_now h_fault h_tape h_got h_failing h_past h_aside h_best h_tried h_kept h_keptPast h_sheets h_sheets_x h_sheets_y h_sheets_y_r : Nat) (shf : Nat → Option Nat) (sz : Nat) (taped : Int32) (reads : Int32) (undoMany : Int32) (keptMany : Int32) (isKept : Int32) (rn2 : Nat) (rw2 : Nat → Int32) (p1 : Int32) (p2 : Int32) (p3 : Int32) (p4 : Int32) (p5 : Int32)(hsh : shf p1.toNatClampNeg = some h_sheets_x) (hsh2 : shf p3.toNatClampNeg = some h_sheets_y) (Q : Int32 → Prop) (hw : wp_X0_copy_NB rn2 rw2 p1 p2 p3 p4 p5 Q) : Met l yX0_copy (wsW_ yX0_copy cX0_copy 7 (some .int) [(18, 44, 47, 354), (18, 44, 52, 360), (18, 44, 57, 362)]) ({ frames := 9, cells := 3, slots := 1010, locals := 10248 } : Room) (va_Pc [.ref h, .int p1, .int p2, .int p3, .int p4, .int p5] (fun U => U.heap.size = sz ∧ va_P G.1 gCl [oc h 0 [.ref h_kinds, .ref h_now, .ref h_fault, .ref h_tape, .int taped, .int reads, .ref h_got, .ref h_failing, .ref h_past, .int undoMany, .ref h_aside, .ref h_best, .ref h_tried, .ref h_kept, .ref h_keptPast, .int keptMany, .int isKept, .ref h_sheets], arf G h_sheets 7 4 shf, oc h_sheets_x 8 [.null], oc h_sheets_y 8 [.ref h_sheets_y_r], ay G h_sheets_y_r rn2 rw2] U.heap ∧ gK G U ∧ va_D (fun _ => True) [oc h 0 [.ref h_kinds, .ref h_now, .ref h_fault, .ref h_tape, .int taped, .int reads, .ref h_got, .ref h_failing, .ref h_past, .int undoMany, .ref h_aside, .ref h_best, .ref h_tried, .ref h_kept, .ref h_keptPast, .int keptMany, .int isKept, .ref h_sheets], arf G h_sheets 7 4 shf, oc h_sheets_x 8 [.null], oc h_sheets_y 8 [.ref h_sheets_y_r], ay G h_sheets_y_r rn2 rw2] ∧ stS aS U)) ((fun A => (va_Qi (fun (r : Int32) (u : Unit) => Q r ) (fun u t => va_P G.1 gCl [oc h 0 [.ref h_kinds, .ref h_now, .ref h_fault, .ref h_tape, .int taped, .int reads, .ref h_got, .ref h_failing, .ref h_past, .int undoMany, .ref h_aside, .ref h_best, .ref h_tried, .ref h_kept, .ref h_keptPast, .int keptMany, .int isKept, .ref h_sheets], arf G h_sheets 7 4 shf, oc h_sheets_x 8 [.null], oc h_sheets_y 8 [.ref h_sheets_y_r], ay G h_sheets_y_r rn2 rw2] t.heap ∧ va_D A [oc h 0 [.ref h_kinds, .ref h_now, .ref h_fault, .ref h_tape, .int taped, .int reads, .ref h_got, .ref h_failing, .ref h_past, .int undoMany, .ref h_aside, .ref h_best, .ref h_tried, .ref h_kept, .ref h_keptPast, .int keptMany, .int isKept, .ref h_sheets], arf G h_sheets 7 4 shf, oc h_sheets_x 8 [.null], oc h_sheets_y 8 [.ref h_sheets_y_r], ay G h_sheets_y_r rn2 rw2]) A)) (va_A [oc h 0 [.ref h_kinds, .ref h_now, .ref h_fault, .ref h_tape, .int taped, .int reads, .ref h_got, .ref h_failing, .ref h_past, .int undoMany, .ref h_aside, .ref h_best, .ref h_tried, .ref h_kept, .ref h_keptPast, .int keptMany, .int isKept, .ref h_sheets], arf G h_sheets 7 4 shf, oc h_sheets_x 8 [.null], oc h_sheets_y 8 [.ref h_sheets_y_r], ay G h_sheets_y_r rn2 rw2] sz)) 3 1010 (va_A [oc h 0 [.ref h_kinds, .ref h_now, .ref h_fault, .ref h_tape, .int taped, .int reads, .ref h_got, .ref h_failing, .ref h_past, .int undoMany, .ref h_aside, .ref h_best, .ref h_tried, .ref h_kept, .ref h_keptPast, .int keptMany, .int isKept, .ref h_sheets], arf G h_sheets 7 4 shf, oc h_sheets_x 8 [.null], oc h_sheets_y 8 [.ref h_sheets_y_r], ay G h_sheets_y_r rn2 rw2] sz) := by
  refine va_MetW (hh := [(18, 44, 47, 354), (18, 44, 52, 360), (18, 44, 57, 362)]) (cc := cX0_copy) (maxL := 7) (ret := (some .int)) (by decide) rfl ?_
  intro p e s m args below meth c s₁ B hml hv
  obtain ⟨rfl, hsz, hP, hK, hD0, hst⟩ := hv
  have hx := B.exec
  have hb := B.bytes
  have hr := B.returns
  have hts := atoms_spec (ws := (wsW_ yX0_copy cX0_copy 7 (some .int) [(18, 44, 47, 354), (18, 44, 52, 360), (18, 44, 57, 362)])) B.pre
  have hts : ∀ w ∈ lw_all, w.before _ s = true := fun w h => hts w (List.mem_cons_of_mem _ h)
  have hown : s.vm.findClass RX0 = some m.cls := findClass_of_methodNamed B.named
  have hlocks := B.notSynchronized
  have hhd : c.exceptionTable.toList = [⟨18, 44, 47, 354⟩, ⟨18, 44, 52, 360⟩, ⟨18, 44, 57, 362⟩] := x_hand B (atoms_spec (ws := (wsW_ yX0_copy cX0_copy 7 (some .int) [(18, 44, 47, 354), (18, 44, 52, 360), (18, 44, 57, 362)])) B.pre _ List.mem_cons_self)
  subst hsz
  have hD := hD0.self (sz := s.heap.size)
  generalize hAe : va_A [oc h 0 [.ref h_kinds, .ref h_now, .ref h_fault, .ref h_tape, .int taped, .int reads, .ref h_got, .ref h_failing, .ref h_past, .int undoMany, .ref h_aside, .ref h_best, .ref h_tried, .ref h_kept, .ref h_keptPast, .int keptMany, .int isKept, .ref h_sheets], arf G h_sheets 7 4 shf, oc h_sheets_x 8 [.null], oc h_sheets_y 8 [.ref h_sheets_y_r], ay G h_sheets_y_r rn2 rw2] s.heap.size = A at hD ⊢
  have hA : ∀ q : Nat, s.heap.size ≤ q → A q := fun q h => by rw [← hAe]; exact Or.inr h
  have hS : va_S A s.heap s.heap [] := va_S.rf
  have hX : XCx l aS s A := ⟨hfl, hst, fun q cell hq hc => va_A.ns hP (by rw [hAe]; exact hq) hc⟩
  have C : Cx p s m meth c cX0_copy 7 (some .int) RX0 ([.ref h, .int p1, .int p2, .int p3, .int p4, .int p5] : List Value).toArray G A := ⟨hx, hb, hr, hlocks, hml, hown, hts, hK, hA⟩
  have hl := lv_entry ([.ref h, .int p1, .int p2, .int p3, .int p4, .int p5]) (n := 7) (Nat.le_of_ble_eq_true rfl)
  rw [lg_entry_eq]
  generalize (lg_sl ([.ref h, .int p1, .int p2, .int p3, .int p4, .int p5]) ++ List.replicate (7 - (lg_sl ([.ref h, .int p1, .int p2, .int p3, .int p4, .int p5])).length) Slot.unset).toArray = ls at hl ⊢
  have hl : lv_has ls 7 [(0, .ref h), (1, .int p1), (2, .int p2), (3, .int p3), (4, .int p4), (5, .int p5)] := hl
  unfold wp_X0_copy_NB at hw
  refine lv_iload_n hx hb dX0_copy_0 rfl (lv_at hl 1 rfl) ?_
  refine lv_iconst (v := (0 : Int32)) hx hb dX0_copy_1 (by decide) ?_
  have hPc := hP.sub (ws' := []) [] rfl
  have hDc := hD.sub (ws' := []) [] (by decide) rfl
  have hFc := va_free (wc := []) hD hS hA [] rfl
  refine va_calli (va_runS (As := [.int p1, .int (0 : Int32)]) (rest := []) ⟨hx, hb, hml, hown, hts⟩ (mt_X0_isSheet l G  s.heap.size  p1 (0 : Int32) _ hw) (va_cwS 2 hts (lw_S q648 q649 q54 q650) rfl rfl rfl (by decide +kernel) ⟨Nat.le_of_ble_eq_true rfl, Nat.le_of_ble_eq_true rfl⟩) ⟨fun a U g mk q => by obtain ⟨q0, q1, qP, qK, qD⟩ := q; exact ⟨q0, q1, qP, qK.call, qD⟩, fun U hU hW => ⟨rfl, by rw [hU], by rw [hU]; exact hPc, hK.warm hW, hDc.weaken (fun _ _ _ _ => trivial)⟩⟩ rfl rfl hl.1 rfl (lv_room (Nat.le_of_ble_eq_true rfl)) dX0_copy_2 ⟨Nat.le_of_ble_eq_true rfl, Nat.le_of_ble_eq_true rfl⟩) hS (fun q _ h => hFc q h) hFc (fun r_1 _ t H1 locs ht hvm hw hB hz1 hk1 hS => ?_)
  obtain ⟨hP1, hD1⟩ := hB
  rw [ht] at hP1
  obtain ⟨hP, hD⟩ := va_join (wr := [oc h 0 [.ref h_kinds, .ref h_now, .ref h_fault, .ref h_tape, .int taped, .int reads, .ref h_got, .ref h_failing, .ref h_past, .int undoMany, .ref h_aside, .ref h_best, .ref h_tried, .ref h_kept, .ref h_keptPast, .int keptMany, .int isKept, .ref h_sheets], arf G h_sheets 7 4 shf, oc h_sheets_x 8 [.null], oc h_sheets_y 8 [.ref h_sheets_y_r], ay G h_sheets_y_r rn2 rw2]) (w1 := []) hP hD [] [0, 1, 2, 3, 4] rfl rfl (by decide) (by decide) hk1 hFc hP1 hD1
  clear hPc hDc hFc hP1 hD1 hz1 hk1 hvm
  generalize H1 = H at hP hS ⊢
  have hP : va_P G.1 gCl [oc h 0 [.ref h_kinds, .ref h_now, .ref h_fault, .ref h_tape, .int taped, .int reads, .ref h_got, .ref h_failing, .ref h_past, .int undoMany, .ref h_aside, .ref h_best, .ref h_tried, .ref h_kept, .ref h_keptPast, .int keptMany, .int isKept, .ref h_sheets], arf G h_sheets 7 4 shf, oc h_sheets_x 8 [.null], oc h_sheets_y 8 [.ref h_sheets_y_r], ay G h_sheets_y_r rn2 rw2] H := hP
  have hD : va_D A [oc h 0 [.ref h_kinds, .ref h_now, .ref h_fault, .ref h_tape, .int taped, .int reads, .ref h_got, .ref h_failing, .ref h_past, .int undoMany, .ref h_aside, .ref h_best, .ref h_tried, .ref h_kept, .ref h_keptPast, .int keptMany, .int isKept, .ref h_sheets], arf G h_sheets 7 4 shf, oc h_sheets_x 8 [.null], oc h_sheets_y 8 [.ref h_sheets_y_r], ay G h_sheets_y_r rn2 rw2] := hD
  refine lv_if_eq (tgt := 16) hx hb dX0_copy_5 (by decide) (fun c_2 => ?_) (fun c_2 => ?_)
  · replace hw := hw.1 c_2
    refine lv_iconst (v := (-1 : Int32)) hx hb dX0_copy_16 (by decide) ?_
    have hP9 := hP
    have hD9 := hD
    exact w_widen (k := 3) (n := 1010) (by first | exact Nat.le_of_ble_eq_true rfl | omega) (by first | exact Nat.le_of_ble_eq_true rfl | omega) (W.iret (v := (-1 : Int32)) hx hb hr (fun t ht hW => ⟨⟨(-1 : Int32), (), rfl, hw, by rw [ht]; exact hP9, hD9⟩, hS.F ht⟩) hS.2.2 dX0_copy_17)
  · replace hw := hw.2 c_2
    refine lv_iload_n hx hb dX0_copy_8 rfl (lv_at hl 3 rfl) ?_
    refine lv_iconst (v := (0 : Int32)) hx hb dX0_copy_9 (by decide) ?_
    have hPc := hP.sub (ws' := []) [] rfl
    have hDc := hD.sub (ws' := []) [] (by decide) rfl
    have hFc := va_free (wc := []) hD hS hA [] rfl
    refine va_calli (va_runS (As := [.int p3, .int (0 : Int32)]) (rest := []) ⟨hx, hb, hml, hown, hts⟩ (mt_X0_isSheet l G  H.size  p3 (0 : Int32) _ hw) (va_cwS 2 hts (lw_S q648 q649 q54 q650) rfl rfl rfl (by decide +kernel) ⟨Nat.le_of_ble_eq_true rfl, Nat.le_of_ble_eq_true rfl⟩) ⟨fun a U g mk q => by obtain ⟨q0, q1, qP, qK, qD⟩ := q; exact ⟨q0, q1, qP, qK.call, qD⟩, fun U hU hW => ⟨rfl, by rw [hU], by rw [hU]; exact hPc, hK.warm hW, hDc.weaken (fun _ _ _ _ => trivial)⟩⟩ rfl rfl hl.1 rfl (lv_room (Nat.le_of_ble_eq_true rfl)) dX0_copy_10 ⟨Nat.le_of_ble_eq_true rfl, Nat.le_of_ble_eq_true rfl⟩) hS (fun q _ h => hFc q h) hFc (fun r_3 _ t H1 locs ht hvm hw hB hz1 hk1 hS => ?_)
    obtain ⟨hP1, hD1⟩ := hB
    rw [ht] at hP1
    obtain ⟨hP, hD⟩ := va_join (wr := [oc h 0 [.ref h_kinds, .ref h_now, .ref h_fault, .ref h_tape, .int taped, .int reads, .ref h_got, .ref h_failing, .ref h_past, .int undoMany, .ref h_aside, .ref h_best, .ref h_tried, .ref h_kept, .ref h_keptPast, .int keptMany, .int isKept, .ref h_sheets], arf G h_sheets 7 4 shf, oc h_sheets_x 8 [.null], oc h_sheets_y 8 [.ref h_sheets_y_r], ay G h_sheets_y_r rn2 rw2]) (w1 := []) hP hD [] [0, 1, 2, 3, 4] rfl rfl (by decide) (by decide) hk1 hFc hP1 hD1
    clear hPc hDc hFc hP1 hD1 hz1 hk1 hvm
    generalize H1 = H at hP hS ⊢
    have hP : va_P G.1 gCl [oc h 0 [.ref h_kinds, .ref h_now, .ref h_fault, .ref h_tape, .int taped, .int reads, .ref h_got, .ref h_failing, .ref h_past, .int undoMany, .ref h_aside, .ref h_best, .ref h_tried, .ref h_kept, .ref h_keptPast, .int keptMany, .int isKept, .ref h_sheets], arf G h_sheets 7 4 shf, oc h_sheets_x 8 [.null], oc h_sheets_y 8 [.ref h_sheets_y_r], ay G h_sheets_y_r rn2 rw2] H := hP
    have hD : va_D A [oc h 0 [.ref h_kinds, .ref h_now, .ref h_fault, .ref h_tape, .int taped, .int reads, .ref h_got, .ref h_failing, .ref h_past, .int undoMany, .ref h_aside, .ref h_best, .ref h_tried, .ref h_kept, .ref h_keptPast, .int keptMany, .int isKept, .ref h_sheets], arf G h_sheets 7 4 shf, oc h_sheets_x 8 [.null], oc h_sheets_y 8 [.ref h_sheets_y_r], ay G h_sheets_y_r rn2 rw2] := hD
    refine lv_if_ne (tgt := 18) hx hb dX0_copy_13 (by decide) (fun c_4 => ?_) (fun c_4 => ?_)
    · replace hw := hw.1 c_4
      refine lv_aload_n hx hb dX0_copy_18 rfl (lv_at hl 0 rfl) ?_
      refine va_get (D := G.1) (ci := 0) (v := .ref h_sheets) (C := RX0) (T := TX0) (N := 18) hx hb hts in_X0 hown hK.1 hP 0 rfl rfl 17 (by decide) (hts _ q273) (fun _ h9 => h9) rfl dX0_copy_19 ?_
      refine lv_iload_n hx hb dX0_copy_22 rfl (lv_at hl 1 rfl) ?_
      obtain ⟨i_5, hw⟩ := hw
      refine z_aaldS hx hb hK.1 hP 1 7 rfl rfl i_5 dX0_copy_23 hsh ?_
      refine va_getN (D := G.1) (ci := 8) (v := .null) (C := RX8) (T := TX8) (N := 1) hx hb hts in_X8 hown hK.1 hP 2 rfl rfl 0 (by decide) (hK.n q251 rfl) (fun _ h9 => h9) rfl dX0_copy_24 ?_
      refine lv_iload_n hx hb dX0_copy_27 rfl (lv_at hl 2 rfl) ?_
      refine lv_aload_n hx hb dX0_copy_28 rfl (lv_at hl 0 rfl) ?_
      refine va_get (D := G.1) (ci := 0) (v := .ref h_sheets) (C := RX0) (T := TX0) (N := 18) hx hb hts in_X0 hown hK.1 hP 0 rfl rfl 17 (by decide) (hts _ q273) (fun _ h9 => h9) rfl dX0_copy_29 ?_
      refine lv_iload_n hx hb dX0_copy_32 rfl (lv_at hl 3 rfl) ?_
      obtain ⟨i_6, hw⟩ := hw
      refine z_aaldS hx hb hK.1 hP 1 7 rfl rfl i_6 dX0_copy_33 hsh2 ?_
      refine va_getN (D := G.1) (ci := 8) (v := .ref h_sheets_y_r) (C := RX8) (T := TX8) (N := 1) hx hb hts in_X8 hown hK.1 hP 3 rfl rfl 0 (by decide) (hK.n q251 rfl) (fun _ h9 => h9) rfl dX0_copy_34 ?_
      refine lv_iload hx hb dX0_copy_37 (lv_at hl 4 rfl) ?_
      refine lv_iload hx hb dX0_copy_39 (lv_at hl 5 rfl) ?_
      refine w_cpNull (a := none) (b := (some h_sheets_y_r)) (rest := []) ⟨hx, hb, hml.trans hl.1.symm, hts, hK, hX, hS, hP, hown, hts _ q512, hts _ q440, hts _ q439, hts _ q68, dX0_copy_41, Nat.le_of_ble_eq_true rfl, Nat.le_of_ble_eq_true rfl, Nat.le_of_ble_eq_true rfl, Nat.le_of_ble_eq_true rfl, Nat.le_of_ble_eq_true rfl⟩ (Or.inl rfl) (fun x_7 H hxo hP hS hz hk => ?_)
      obtain ⟨ce, hce, hcv, hcc⟩ := hxo
      refine wx_catch (cell := ce) hce (by rw [hcv]; rfl) [] ⟨18, 44, 47, 354⟩ [⟨18, 44, 52, 360⟩, ⟨18, 44, 57, 362⟩] hhd (fun _ _ z hz => by cases hz) (by decide) (by decide) hown (hts _ q734) (cT := ce.cls) hcc (vm_refl (args := #[]) (hK.n q756 rfl) hcc) ?_
      refine lv_astore (lv' := [(6, .ref x_7), (0, .ref h), (1, .int p1), (2, .int p2), (3, .int p3), (4, .int p4), (5, .int p5)]) hx hb dX0_copy_47 hl (by decide) rfl (fun ls hl => ?_)
      refine lv_bipush (v := (-11 : Int32)) hx hb dX0_copy_49 (by decide) ?_
      have hP9 := hP
      have hD9 := hD
      exact w_widen (k := 3) (n := 1010) (by first | exact Nat.le_of_ble_eq_true rfl | omega) (by first | exact Nat.le_of_ble_eq_true rfl | omega) (W.iret (v := (-11 : Int32)) hx hb hr (fun t ht hW => ⟨⟨(-11 : Int32), (), rfl, hw, by rw [ht]; exact hP9, hD9⟩, hS.F ht⟩) hS.2.2 dX0_copy_51)
    · replace hw := hw.2 c_4
      refine lv_iconst (v := (-1 : Int32)) hx hb dX0_copy_16 (by decide) ?_
      have hP9 := hP
      have hD9 := hD
      exact w_widen (k := 3) (n := 1010) (by first | exact Nat.le_of_ble_eq_true rfl | omega) (by first | exact Nat.le_of_ble_eq_true rfl | omega) (W.iret (v := (-1 : Int32)) hx hb hr (fun t ht hW => ⟨⟨(-1 : Int32), (), rfl, hw, by rw [ht]; exact hP9, hD9⟩, hS.F ht⟩) hS.2.2 dX0_copy_17)
/-! BattleBench.copy(IIIII)I -/
def wp_X0_copy_NS (rn2 : Nat) (rw2 : Nat → Int32) (p1 : Int32) (p2 : Int32) (p3 : Int32) (p4 : Int32) (p5 : Int32) (Q : Int32 → Prop) : Prop :=
  wp_X0_isSheet  p1 (0 : Int32) (fun r_1 => (((r_1 = 0) → Q (-1 : Int32)) ∧ (¬ (r_1 = 0) → wp_X0_isSheet  p3 (0 : Int32) (fun r_3 => ((¬ (r_3 = 0) → (vp_in p1 4 ∧ (vp_in p3 4 ∧ Q (-11 : Int32)))) ∧ ((r_3 = 0) → Q (-1 : Int32)))))))
set_option maxHeartbeats 4000000 in
theorem mt_X0_copy_NS (l : Launch) (G : GT) (aS : Nat) (hfl : l.flags = pinnedFlags ++ [noTraceFlag]) (h h_kinds h_now h_fault h_tape h_got h_failing h_past h_aside h_best h_tried h_kept h_keptPast h_sheets h_sheets_x h_sheets_y h_sheets_y_r : Nat) (shf : Nat → Option Nat) (sz : Nat) (taped : Int32) (reads : Int32) (undoMany : Int32) (keptMany : Int32) (isKept : Int32) (rn2 : Nat) (rw2 : Nat → Int32) (p1 : Int32) (p2 : Int32) (p3 : Int32) (p4 : Int32) (p5 : Int32)(hsh : shf p1.toNatClampNeg = some h_sheets_x) (hsh2 : shf p3.toNatClampNeg = some h_sheets_y) (Q : Int32 → Prop) (hw : wp_X0_copy_NS rn2 rw2 p1 p2 p3 p4 p5 Q) : Met l yX0_copy (wsW_ yX0_copy cX0_copy 7 (some .int) [(18, 44, 47, 354), (18, 44, 52, 360), (18, 44, 57, 362)]) ({ frames := 9, cells := 3, slots := 1010, locals := 10248 } : Room) (va_Pc [.ref h, .int p1, .int p2, .int p3, .int p4, .int p5] (fun U => U.heap.size = sz ∧ va_P G.1 gCl [oc h 0 [.ref h_kinds, .ref h_now, .ref h_fault, .ref h_tape, .int taped, .int reads, .ref h_got, .ref h_failing, .ref h_past, .int undoMany, .ref h_aside, .ref h_best, .ref h_tried, .ref h_kept, .ref h_keptPast, .int keptMany, .int isKept, .ref h_sheets], arf G h_sheets 7 4 shf, oc h_sheets_x 8 [.null], oc h_sheets_y 8 [.ref h_sheets_y_r], ah G h_sheets_y_r rn2 rw2] U.heap ∧ gK G U ∧ va_D (fun _ => True) [oc h 0 [.ref h_kinds, .ref h_now, .ref h_fault, .ref h_tape, .int taped, .int reads, .ref h_got, .ref h_failing, .ref h_past, .int undoMany, .ref h_aside, .ref h_best, .ref h_tried, .ref h_kept, .ref h_keptPast, .int keptMany, .int isKept, .ref h_sheets], arf G h_sheets 7 4 shf, oc h_sheets_x 8 [.null], oc h_sheets_y 8 [.ref h_sheets_y_r], ah G h_sheets_y_r rn2 rw2] ∧ stS aS U)) ((fun A => (va_Qi (fun (r : Int32) (u : Unit) => Q r ) (fun u t => va_P G.1 gCl [oc h 0 [.ref h_kinds, .ref h_now, .ref h_fault, .ref h_tape, .int taped, .int reads, .ref h_got, .ref h_failing, .ref h_past, .int undoMany, .ref h_aside, .ref h_best, .ref h_tried, .ref h_kept, .ref h_keptPast, .int keptMany, .int isKept, .ref h_sheets], arf G h_sheets 7 4 shf, oc h_sheets_x 8 [.null], oc h_sheets_y 8 [.ref h_sheets_y_r], ah G h_sheets_y_r rn2 rw2] t.heap ∧ va_D A [oc h 0 [.ref h_kinds, .ref h_now, .ref h_fault, .ref h_tape, .int taped, .int reads, .ref h_got, .ref h_failing, .ref h_past, .int undoMany, .ref h_aside, .ref h_best, .ref h_tried, .ref h_kept, .ref h_keptPast, .int keptMany, .int isKept, .ref h_sheets], arf G h_sheets 7 4 shf, oc h_sheets_x 8 [.null], oc h_sheets_y 8 [.ref h_sheets_y_r], ah G h_sheets_y_r rn2 rw2]) A)) (va_A [oc h 0 [.ref h_kinds, .ref h_now, .ref h_fault, .ref h_tape, .int taped, .int reads, .ref h_got, .ref h_failing, .ref h_past, .int undoMany, .ref h_aside, .ref h_best, .ref h_tried, .ref h_kept, .ref h_keptPast, .int keptMany, .int isKept, .ref h_sheets], arf G h_sheets 7 4 shf, oc h_sheets_x 8 [.null], oc h_sheets_y 8 [.ref h_sheets_y_r], ah G h_sheets_y_r rn2 rw2] sz)) 3 1010 (va_A [oc h 0 [.ref h_kinds, .ref h_now, .ref h_fault, .ref h_tape, .int taped, .int reads, .ref h_got, .ref h_failing, .ref h_past, .int undoMany, .ref h_aside, .ref h_best, .ref h_tried, .ref h_kept, .ref h_keptPast, .int keptMany, .int isKept, .ref h_sheets], arf G h_sheets 7 4 shf, oc h_sheets_x 8 [.null], oc h_sheets_y 8 [.ref h_sheets_y_r], ah G h_sheets_y_r rn2 rw2] sz) := by
  refine va_MetW (hh := [(18, 44, 47, 354), (18, 44, 52, 360), (18, 44, 57, 362)]) (cc := cX0_copy) (maxL := 7) (ret := (some .int)) (by decide) rfl ?_
  intro p e s m args below meth c s₁ B hml hv
  obtain ⟨rfl, hsz, hP, hK, hD0, hst⟩ := hv
  have hx := B.exec
  have hb := B.bytes
  have hr := B.returns
  have hts := atoms_spec (ws := (wsW_ yX0_copy cX0_copy 7 (some .int) [(18, 44, 47, 354), (18, 44, 52, 360), (18, 44, 57, 362)])) B.pre
  have hts : ∀ w ∈ lw_all, w.before _ s = true := fun w h => hts w (List.mem_cons_of_mem _ h)
  have hown : s.vm.findClass RX0 = some m.cls := findClass_of_methodNamed B.named
  have hlocks := B.notSynchronized
  have hhd : c.exceptionTable.toList = [⟨18, 44, 47, 354⟩, ⟨18, 44, 52, 360⟩, ⟨18, 44, 57, 362⟩] := x_hand B (atoms_spec (ws := (wsW_ yX0_copy cX0_copy 7 (some .int) [(18, 44, 47, 354), (18, 44, 52, 360), (18, 44, 57, 362)])) B.pre _ List.mem_cons_self)
  subst hsz
  have hD := hD0.self (sz := s.heap.size)
  generalize hAe : va_A [oc h 0 [.ref h_kinds, .ref h_now, .ref h_fault, .ref h_tape, .int taped, .int reads, .ref h_got, .ref h_failing, .ref h_past, .int undoMany, .ref h_aside, .ref h_best, .ref h_tried, .ref h_kept, .ref h_keptPast, .int keptMany, .int isKept, .ref h_sheets], arf G h_sheets 7 4 shf, oc h_sheets_x 8 [.null], oc h_sheets_y 8 [.ref h_sheets_y_r], ah G h_sheets_y_r rn2 rw2] s.heap.size = A at hD ⊢
  have hA : ∀ q : Nat, s.heap.size ≤ q → A q := fun q h => by rw [← hAe]; exact Or.inr h
  have hS : va_S A s.heap s.heap [] := va_S.rf
  have hX : XCx l aS s A := ⟨hfl, hst, fun q cell hq hc => va_A.ns hP (by rw [hAe]; exact hq) hc⟩
  have C : Cx p s m meth c cX0_copy 7 (some .int) RX0 ([.ref h, .int p1, .int p2, .int p3, .int p4, .int p5] : List Value).toArray G A := ⟨hx, hb, hr, hlocks, hml, hown, hts, hK, hA⟩
  have hl := lv_entry ([.ref h, .int p1, .int p2, .int p3, .int p4, .int p5]) (n := 7) (Nat.le_of_ble_eq_true rfl)
  rw [lg_entry_eq]
  generalize (lg_sl ([.ref h, .int p1, .int p2, .int p3, .int p4, .int p5]) ++ List.replicate (7 - (lg_sl ([.ref h, .int p1, .int p2, .int p3, .int p4, .int p5])).length) Slot.unset).toArray = ls at hl ⊢
  have hl : lv_has ls 7 [(0, .ref h), (1, .int p1), (2, .int p2), (3, .int p3), (4, .int p4), (5, .int p5)] := hl
  unfold wp_X0_copy_NS at hw
  refine lv_iload_n hx hb dX0_copy_0 rfl (lv_at hl 1 rfl) ?_
  refine lv_iconst (v := (0 : Int32)) hx hb dX0_copy_1 (by decide) ?_
  have hPc := hP.sub (ws' := []) [] rfl
  have hDc := hD.sub (ws' := []) [] (by decide) rfl
  have hFc := va_free (wc := []) hD hS hA [] rfl
  refine va_calli (va_runS (As := [.int p1, .int (0 : Int32)]) (rest := []) ⟨hx, hb, hml, hown, hts⟩ (mt_X0_isSheet l G  s.heap.size  p1 (0 : Int32) _ hw) (va_cwS 2 hts (lw_S q648 q649 q54 q650) rfl rfl rfl (by decide +kernel) ⟨Nat.le_of_ble_eq_true rfl, Nat.le_of_ble_eq_true rfl⟩) ⟨fun a U g mk q => by obtain ⟨q0, q1, qP, qK, qD⟩ := q; exact ⟨q0, q1, qP, qK.call, qD⟩, fun U hU hW => ⟨rfl, by rw [hU], by rw [hU]; exact hPc, hK.warm hW, hDc.weaken (fun _ _ _ _ => trivial)⟩⟩ rfl rfl hl.1 rfl (lv_room (Nat.le_of_ble_eq_true rfl)) dX0_copy_2 ⟨Nat.le_of_ble_eq_true rfl, Nat.le_of_ble_eq_true rfl⟩) hS (fun q _ h => hFc q h) hFc (fun r_1 _ t H1 locs ht hvm hw hB hz1 hk1 hS => ?_)
  obtain ⟨hP1, hD1⟩ := hB
  rw [ht] at hP1
  obtain ⟨hP, hD⟩ := va_join (wr := [oc h 0 [.ref h_kinds, .ref h_now, .ref h_fault, .ref h_tape, .int taped, .int reads, .ref h_got, .ref h_failing, .ref h_past, .int undoMany, .ref h_aside, .ref h_best, .ref h_tried, .ref h_kept, .ref h_keptPast, .int keptMany, .int isKept, .ref h_sheets], arf G h_sheets 7 4 shf, oc h_sheets_x 8 [.null], oc h_sheets_y 8 [.ref h_sheets_y_r], ah G h_sheets_y_r rn2 rw2]) (w1 := []) hP hD [] [0, 1, 2, 3, 4] rfl rfl (by decide) (by decide) hk1 hFc hP1 hD1
  clear hPc hDc hFc hP1 hD1 hz1 hk1 hvm
  generalize H1 = H at hP hS ⊢
  have hP : va_P G.1 gCl [oc h 0 [.ref h_kinds, .ref h_now, .ref h_fault, .ref h_tape, .int taped, .int reads, .ref h_got, .ref h_failing, .ref h_past, .int undoMany, .ref h_aside, .ref h_best, .ref h_tried, .ref h_kept, .ref h_keptPast, .int keptMany, .int isKept, .ref h_sheets], arf G h_sheets 7 4 shf, oc h_sheets_x 8 [.null], oc h_sheets_y 8 [.ref h_sheets_y_r], ah G h_sheets_y_r rn2 rw2] H := hP
  have hD : va_D A [oc h 0 [.ref h_kinds, .ref h_now, .ref h_fault, .ref h_tape, .int taped, .int reads, .ref h_got, .ref h_failing, .ref h_past, .int undoMany, .ref h_aside, .ref h_best, .ref h_tried, .ref h_kept, .ref h_keptPast, .int keptMany, .int isKept, .ref h_sheets], arf G h_sheets 7 4 shf, oc h_sheets_x 8 [.null], oc h_sheets_y 8 [.ref h_sheets_y_r], ah G h_sheets_y_r rn2 rw2] := hD
  refine lv_if_eq (tgt := 16) hx hb dX0_copy_5 (by decide) (fun c_2 => ?_) (fun c_2 => ?_)
  · replace hw := hw.1 c_2
    refine lv_iconst (v := (-1 : Int32)) hx hb dX0_copy_16 (by decide) ?_
    have hP9 := hP
    have hD9 := hD
    exact w_widen (k := 3) (n := 1010) (by first | exact Nat.le_of_ble_eq_true rfl | omega) (by first | exact Nat.le_of_ble_eq_true rfl | omega) (W.iret (v := (-1 : Int32)) hx hb hr (fun t ht hW => ⟨⟨(-1 : Int32), (), rfl, hw, by rw [ht]; exact hP9, hD9⟩, hS.F ht⟩) hS.2.2 dX0_copy_17)
  · replace hw := hw.2 c_2
    refine lv_iload_n hx hb dX0_copy_8 rfl (lv_at hl 3 rfl) ?_
    refine lv_iconst (v := (0 : Int32)) hx hb dX0_copy_9 (by decide) ?_
    have hPc := hP.sub (ws' := []) [] rfl
    have hDc := hD.sub (ws' := []) [] (by decide) rfl
    have hFc := va_free (wc := []) hD hS hA [] rfl
    refine va_calli (va_runS (As := [.int p3, .int (0 : Int32)]) (rest := []) ⟨hx, hb, hml, hown, hts⟩ (mt_X0_isSheet l G  H.size  p3 (0 : Int32) _ hw) (va_cwS 2 hts (lw_S q648 q649 q54 q650) rfl rfl rfl (by decide +kernel) ⟨Nat.le_of_ble_eq_true rfl, Nat.le_of_ble_eq_true rfl⟩) ⟨fun a U g mk q => by obtain ⟨q0, q1, qP, qK, qD⟩ := q; exact ⟨q0, q1, qP, qK.call, qD⟩, fun U hU hW => ⟨rfl, by rw [hU], by rw [hU]; exact hPc, hK.warm hW, hDc.weaken (fun _ _ _ _ => trivial)⟩⟩ rfl rfl hl.1 rfl (lv_room (Nat.le_of_ble_eq_true rfl)) dX0_copy_10 ⟨Nat.le_of_ble_eq_true rfl, Nat.le_of_ble_eq_true rfl⟩) hS (fun q _ h => hFc q h) hFc (fun r_3 _ t H1 locs ht hvm hw hB hz1 hk1 hS => ?_)
    obtain ⟨hP1, hD1⟩ := hB
    rw [ht] at hP1
    obtain ⟨hP, hD⟩ := va_join (wr := [oc h 0 [.ref h_kinds, .ref h_now, .ref h_fault, .ref h_tape, .int taped, .int reads, .ref h_got, .ref h_failing, .ref h_past, .int undoMany, .ref h_aside, .ref h_best, .ref h_tried, .ref h_kept, .ref h_keptPast, .int keptMany, .int isKept, .ref h_sheets], arf G h_sheets 7 4 shf, oc h_sheets_x 8 [.null], oc h_sheets_y 8 [.ref h_sheets_y_r], ah G h_sheets_y_r rn2 rw2]) (w1 := []) hP hD [] [0, 1, 2, 3, 4] rfl rfl (by decide) (by decide) hk1 hFc hP1 hD1
    clear hPc hDc hFc hP1 hD1 hz1 hk1 hvm
    generalize H1 = H at hP hS ⊢
    have hP : va_P G.1 gCl [oc h 0 [.ref h_kinds, .ref h_now, .ref h_fault, .ref h_tape, .int taped, .int reads, .ref h_got, .ref h_failing, .ref h_past, .int undoMany, .ref h_aside, .ref h_best, .ref h_tried, .ref h_kept, .ref h_keptPast, .int keptMany, .int isKept, .ref h_sheets], arf G h_sheets 7 4 shf, oc h_sheets_x 8 [.null], oc h_sheets_y 8 [.ref h_sheets_y_r], ah G h_sheets_y_r rn2 rw2] H := hP
    have hD : va_D A [oc h 0 [.ref h_kinds, .ref h_now, .ref h_fault, .ref h_tape, .int taped, .int reads, .ref h_got, .ref h_failing, .ref h_past, .int undoMany, .ref h_aside, .ref h_best, .ref h_tried, .ref h_kept, .ref h_keptPast, .int keptMany, .int isKept, .ref h_sheets], arf G h_sheets 7 4 shf, oc h_sheets_x 8 [.null], oc h_sheets_y 8 [.ref h_sheets_y_r], ah G h_sheets_y_r rn2 rw2] := hD
    refine lv_if_ne (tgt := 18) hx hb dX0_copy_13 (by decide) (fun c_4 => ?_) (fun c_4 => ?_)
    · replace hw := hw.1 c_4
      refine lv_aload_n hx hb dX0_copy_18 rfl (lv_at hl 0 rfl) ?_
      refine va_get (D := G.1) (ci := 0) (v := .ref h_sheets) (C := RX0) (T := TX0) (N := 18) hx hb hts in_X0 hown hK.1 hP 0 rfl rfl 17 (by decide) (hts _ q273) (fun _ h9 => h9) rfl dX0_copy_19 ?_
      refine lv_iload_n hx hb dX0_copy_22 rfl (lv_at hl 1 rfl) ?_
      obtain ⟨i_5, hw⟩ := hw
      refine z_aaldS hx hb hK.1 hP 1 7 rfl rfl i_5 dX0_copy_23 hsh ?_
      refine va_getN (D := G.1) (ci := 8) (v := .null) (C := RX8) (T := TX8) (N := 1) hx hb hts in_X8 hown hK.1 hP 2 rfl rfl 0 (by decide) (hK.n q251 rfl) (fun _ h9 => h9) rfl dX0_copy_24 ?_
      refine lv_iload_n hx hb dX0_copy_27 rfl (lv_at hl 2 rfl) ?_
      refine lv_aload_n hx hb dX0_copy_28 rfl (lv_at hl 0 rfl) ?_
      refine va_get (D := G.1) (ci := 0) (v := .ref h_sheets) (C := RX0) (T := TX0) (N := 18) hx hb hts in_X0 hown hK.1 hP 0 rfl rfl 17 (by decide) (hts _ q273) (fun _ h9 => h9) rfl dX0_copy_29 ?_
      refine lv_iload_n hx hb dX0_copy_32 rfl (lv_at hl 3 rfl) ?_
      obtain ⟨i_6, hw⟩ := hw
      refine z_aaldS hx hb hK.1 hP 1 7 rfl rfl i_6 dX0_copy_33 hsh2 ?_
      refine va_getN (D := G.1) (ci := 8) (v := .ref h_sheets_y_r) (C := RX8) (T := TX8) (N := 1) hx hb hts in_X8 hown hK.1 hP 3 rfl rfl 0 (by decide) (hK.n q251 rfl) (fun _ h9 => h9) rfl dX0_copy_34 ?_
      refine lv_iload hx hb dX0_copy_37 (lv_at hl 4 rfl) ?_
      refine lv_iload hx hb dX0_copy_39 (lv_at hl 5 rfl) ?_
      refine w_cpNull (a := none) (b := (some h_sheets_y_r)) (rest := []) ⟨hx, hb, hml.trans hl.1.symm, hts, hK, hX, hS, hP, hown, hts _ q512, hts _ q440, hts _ q439, hts _ q68, dX0_copy_41, Nat.le_of_ble_eq_true rfl, Nat.le_of_ble_eq_true rfl, Nat.le_of_ble_eq_true rfl, Nat.le_of_ble_eq_true rfl, Nat.le_of_ble_eq_true rfl⟩ (Or.inl rfl) (fun x_7 H hxo hP hS hz hk => ?_)
      obtain ⟨ce, hce, hcv, hcc⟩ := hxo
      refine wx_catch (cell := ce) hce (by rw [hcv]; rfl) [] ⟨18, 44, 47, 354⟩ [⟨18, 44, 52, 360⟩, ⟨18, 44, 57, 362⟩] hhd (fun _ _ z hz => by cases hz) (by decide) (by decide) hown (hts _ q734) (cT := ce.cls) hcc (vm_refl (args := #[]) (hK.n q756 rfl) hcc) ?_
      refine lv_astore (lv' := [(6, .ref x_7), (0, .ref h), (1, .int p1), (2, .int p2), (3, .int p3), (4, .int p4), (5, .int p5)]) hx hb dX0_copy_47 hl (by decide) rfl (fun ls hl => ?_)
      refine lv_bipush (v := (-11 : Int32)) hx hb dX0_copy_49 (by decide) ?_
      have hP9 := hP
      have hD9 := hD
      exact w_widen (k := 3) (n := 1010) (by first | exact Nat.le_of_ble_eq_true rfl | omega) (by first | exact Nat.le_of_ble_eq_true rfl | omega) (W.iret (v := (-11 : Int32)) hx hb hr (fun t ht hW => ⟨⟨(-11 : Int32), (), rfl, hw, by rw [ht]; exact hP9, hD9⟩, hS.F ht⟩) hS.2.2 dX0_copy_51)
    · replace hw := hw.2 c_4
      refine lv_iconst (v := (-1 : Int32)) hx hb dX0_copy_16 (by decide) ?_
      have hP9 := hP
      have hD9 := hD
      exact w_widen (k := 3) (n := 1010) (by first | exact Nat.le_of_ble_eq_true rfl | omega) (by first | exact Nat.le_of_ble_eq_true rfl | omega) (W.iret (v := (-1 : Int32)) hx hb hr (fun t ht hW => ⟨⟨(-1 : Int32), (), rfl, hw, by rw [ht]; exact hP9, hD9⟩, hS.F ht⟩) hS.2.2 dX0_copy_17)
/-! BattleBench.copy(IIIII)I -/
def wp_X0_copy_NI (rn2 : Nat) (rw2 : Nat → Int32) (p1 : Int32) (p2 : Int32) (p3 : Int32) (p4 : Int32) (p5 : Int32) (Q : Int32 → Prop) : Prop :=
  wp_X0_isSheet  p1 (0 : Int32) (fun r_1 => (((r_1 = 0) → Q (-1 : Int32)) ∧ (¬ (r_1 = 0) → wp_X0_isSheet  p3 (0 : Int32) (fun r_3 => ((¬ (r_3 = 0) → (vp_in p1 4 ∧ (vp_in p3 4 ∧ Q (-11 : Int32)))) ∧ ((r_3 = 0) → Q (-1 : Int32)))))))
set_option maxHeartbeats 4000000 in
theorem mt_X0_copy_NI (l : Launch) (G : GT) (aS : Nat) (hfl : l.flags = pinnedFlags ++ [noTraceFlag]) (h h_kinds h_now h_fault h_tape h_got h_failing h_past h_aside h_best h_tried h_kept h_keptPast h_sheets h_sheets_x h_sheets_y h_sheets_y_r : Nat) (shf : Nat → Option Nat) (sz : Nat) (taped : Int32) (reads : Int32) (undoMany : Int32) (keptMany : Int32) (isKept : Int32) (rn2 : Nat) (rw2 : Nat → Int32) (p1 : Int32) (p2 : Int32) (p3 : Int32) (p4 : Int32) (p5 : Int32)(hsh : shf p1.toNatClampNeg = some h_sheets_x) (hsh2 : shf p3.toNatClampNeg = some h_sheets_y) (Q : Int32 → Prop) (hw : wp_X0_copy_NI rn2 rw2 p1 p2 p3 p4 p5 Q) : Met l yX0_copy (wsW_ yX0_copy cX0_copy 7 (some .int) [(18, 44, 47, 354), (18, 44, 52, 360), (18, 44, 57, 362)]) ({ frames := 9, cells := 3, slots := 1010, locals := 10248 } : Room) (va_Pc [.ref h, .int p1, .int p2, .int p3, .int p4, .int p5] (fun U => U.heap.size = sz ∧ va_P G.1 gCl [oc h 0 [.ref h_kinds, .ref h_now, .ref h_fault, .ref h_tape, .int taped, .int reads, .ref h_got, .ref h_failing, .ref h_past, .int undoMany, .ref h_aside, .ref h_best, .ref h_tried, .ref h_kept, .ref h_keptPast, .int keptMany, .int isKept, .ref h_sheets], arf G h_sheets 7 4 shf, oc h_sheets_x 8 [.null], oc h_sheets_y 8 [.ref h_sheets_y_r], ai G h_sheets_y_r rn2 rw2] U.heap ∧ gK G U ∧ va_D (fun _ => True) [oc h 0 [.ref h_kinds, .ref h_now, .ref h_fault, .ref h_tape, .int taped, .int reads, .ref h_got, .ref h_failing, .ref h_past, .int undoMany, .ref h_aside, .ref h_best, .ref h_tried, .ref h_kept, .ref h_keptPast, .int keptMany, .int isKept, .ref h_sheets], arf G h_sheets 7 4 shf, oc h_sheets_x 8 [.null], oc h_sheets_y 8 [.ref h_sheets_y_r], ai G h_sheets_y_r rn2 rw2] ∧ stS aS U)) ((fun A => (va_Qi (fun (r : Int32) (u : Unit) => Q r ) (fun u t => va_P G.1 gCl [oc h 0 [.ref h_kinds, .ref h_now, .ref h_fault, .ref h_tape, .int taped, .int reads, .ref h_got, .ref h_failing, .ref h_past, .int undoMany, .ref h_aside, .ref h_best, .ref h_tried, .ref h_kept, .ref h_keptPast, .int keptMany, .int isKept, .ref h_sheets], arf G h_sheets 7 4 shf, oc h_sheets_x 8 [.null], oc h_sheets_y 8 [.ref h_sheets_y_r], ai G h_sheets_y_r rn2 rw2] t.heap ∧ va_D A [oc h 0 [.ref h_kinds, .ref h_now, .ref h_fault, .ref h_tape, .int taped, .int reads, .ref h_got, .ref h_failing, .ref h_past, .int undoMany, .ref h_aside, .ref h_best, .ref h_tried, .ref h_kept, .ref h_keptPast, .int keptMany, .int isKept, .ref h_sheets], arf G h_sheets 7 4 shf, oc h_sheets_x 8 [.null], oc h_sheets_y 8 [.ref h_sheets_y_r], ai G h_sheets_y_r rn2 rw2]) A)) (va_A [oc h 0 [.ref h_kinds, .ref h_now, .ref h_fault, .ref h_tape, .int taped, .int reads, .ref h_got, .ref h_failing, .ref h_past, .int undoMany, .ref h_aside, .ref h_best, .ref h_tried, .ref h_kept, .ref h_keptPast, .int keptMany, .int isKept, .ref h_sheets], arf G h_sheets 7 4 shf, oc h_sheets_x 8 [.null], oc h_sheets_y 8 [.ref h_sheets_y_r], ai G h_sheets_y_r rn2 rw2] sz)) 3 1010 (va_A [oc h 0 [.ref h_kinds, .ref h_now, .ref h_fault, .ref h_tape, .int taped, .int reads, .ref h_got, .ref h_failing, .ref h_past, .int undoMany, .ref h_aside, .ref h_best, .ref h_tried, .ref h_kept, .ref h_keptPast, .int keptMany, .int isKept, .ref h_sheets], arf G h_sheets 7 4 shf, oc h_sheets_x 8 [.null], oc h_sheets_y 8 [.ref h_sheets_y_r], ai G h_sheets_y_r rn2 rw2] sz) := by
  refine va_MetW (hh := [(18, 44, 47, 354), (18, 44, 52, 360), (18, 44, 57, 362)]) (cc := cX0_copy) (maxL := 7) (ret := (some .int)) (by decide) rfl ?_
  intro p e s m args below meth c s₁ B hml hv
  obtain ⟨rfl, hsz, hP, hK, hD0, hst⟩ := hv
  have hx := B.exec
  have hb := B.bytes
  have hr := B.returns
  have hts := atoms_spec (ws := (wsW_ yX0_copy cX0_copy 7 (some .int) [(18, 44, 47, 354), (18, 44, 52, 360), (18, 44, 57, 362)])) B.pre
  have hts : ∀ w ∈ lw_all, w.before _ s = true := fun w h => hts w (List.mem_cons_of_mem _ h)
  have hown : s.vm.findClass RX0 = some m.cls := findClass_of_methodNamed B.named
  have hlocks := B.notSynchronized
  have hhd : c.exceptionTable.toList = [⟨18, 44, 47, 354⟩, ⟨18, 44, 52, 360⟩, ⟨18, 44, 57, 362⟩] := x_hand B (atoms_spec (ws := (wsW_ yX0_copy cX0_copy 7 (some .int) [(18, 44, 47, 354), (18, 44, 52, 360), (18, 44, 57, 362)])) B.pre _ List.mem_cons_self)
  subst hsz
  have hD := hD0.self (sz := s.heap.size)
  generalize hAe : va_A [oc h 0 [.ref h_kinds, .ref h_now, .ref h_fault, .ref h_tape, .int taped, .int reads, .ref h_got, .ref h_failing, .ref h_past, .int undoMany, .ref h_aside, .ref h_best, .ref h_tried, .ref h_kept, .ref h_keptPast, .int keptMany, .int isKept, .ref h_sheets], arf G h_sheets 7 4 shf, oc h_sheets_x 8 [.null], oc h_sheets_y 8 [.ref h_sheets_y_r], ai G h_sheets_y_r rn2 rw2] s.heap.size = A at hD ⊢
  have hA : ∀ q : Nat, s.heap.size ≤ q → A q := fun q h => by rw [← hAe]; exact Or.inr h
  have hS : va_S A s.heap s.heap [] := va_S.rf
  have hX : XCx l aS s A := ⟨hfl, hst, fun q cell hq hc => va_A.ns hP (by rw [hAe]; exact hq) hc⟩
  have C : Cx p s m meth c cX0_copy 7 (some .int) RX0 ([.ref h, .int p1, .int p2, .int p3, .int p4, .int p5] : List Value).toArray G A := ⟨hx, hb, hr, hlocks, hml, hown, hts, hK, hA⟩
  have hl := lv_entry ([.ref h, .int p1, .int p2, .int p3, .int p4, .int p5]) (n := 7) (Nat.le_of_ble_eq_true rfl)
  rw [lg_entry_eq]
  generalize (lg_sl ([.ref h, .int p1, .int p2, .int p3, .int p4, .int p5]) ++ List.replicate (7 - (lg_sl ([.ref h, .int p1, .int p2, .int p3, .int p4, .int p5])).length) Slot.unset).toArray = ls at hl ⊢
  have hl : lv_has ls 7 [(0, .ref h), (1, .int p1), (2, .int p2), (3, .int p3), (4, .int p4), (5, .int p5)] := hl
  unfold wp_X0_copy_NI at hw
  refine lv_iload_n hx hb dX0_copy_0 rfl (lv_at hl 1 rfl) ?_
  refine lv_iconst (v := (0 : Int32)) hx hb dX0_copy_1 (by decide) ?_
  have hPc := hP.sub (ws' := []) [] rfl
  have hDc := hD.sub (ws' := []) [] (by decide) rfl
  have hFc := va_free (wc := []) hD hS hA [] rfl
  refine va_calli (va_runS (As := [.int p1, .int (0 : Int32)]) (rest := []) ⟨hx, hb, hml, hown, hts⟩ (mt_X0_isSheet l G  s.heap.size  p1 (0 : Int32) _ hw) (va_cwS 2 hts (lw_S q648 q649 q54 q650) rfl rfl rfl (by decide +kernel) ⟨Nat.le_of_ble_eq_true rfl, Nat.le_of_ble_eq_true rfl⟩) ⟨fun a U g mk q => by obtain ⟨q0, q1, qP, qK, qD⟩ := q; exact ⟨q0, q1, qP, qK.call, qD⟩, fun U hU hW => ⟨rfl, by rw [hU], by rw [hU]; exact hPc, hK.warm hW, hDc.weaken (fun _ _ _ _ => trivial)⟩⟩ rfl rfl hl.1 rfl (lv_room (Nat.le_of_ble_eq_true rfl)) dX0_copy_2 ⟨Nat.le_of_ble_eq_true rfl, Nat.le_of_ble_eq_true rfl⟩) hS (fun q _ h => hFc q h) hFc (fun r_1 _ t H1 locs ht hvm hw hB hz1 hk1 hS => ?_)
  obtain ⟨hP1, hD1⟩ := hB
  rw [ht] at hP1
  obtain ⟨hP, hD⟩ := va_join (wr := [oc h 0 [.ref h_kinds, .ref h_now, .ref h_fault, .ref h_tape, .int taped, .int reads, .ref h_got, .ref h_failing, .ref h_past, .int undoMany, .ref h_aside, .ref h_best, .ref h_tried, .ref h_kept, .ref h_keptPast, .int keptMany, .int isKept, .ref h_sheets], arf G h_sheets 7 4 shf, oc h_sheets_x 8 [.null], oc h_sheets_y 8 [.ref h_sheets_y_r], ai G h_sheets_y_r rn2 rw2]) (w1 := []) hP hD [] [0, 1, 2, 3, 4] rfl rfl (by decide) (by decide) hk1 hFc hP1 hD1
  clear hPc hDc hFc hP1 hD1 hz1 hk1 hvm
  generalize H1 = H at hP hS ⊢
  have hP : va_P G.1 gCl [oc h 0 [.ref h_kinds, .ref h_now, .ref h_fault, .ref h_tape, .int taped, .int reads, .ref h_got, .ref h_failing, .ref h_past, .int undoMany, .ref h_aside, .ref h_best, .ref h_tried, .ref h_kept, .ref h_keptPast, .int keptMany, .int isKept, .ref h_sheets], arf G h_sheets 7 4 shf, oc h_sheets_x 8 [.null], oc h_sheets_y 8 [.ref h_sheets_y_r], ai G h_sheets_y_r rn2 rw2] H := hP
  have hD : va_D A [oc h 0 [.ref h_kinds, .ref h_now, .ref h_fault, .ref h_tape, .int taped, .int reads, .ref h_got, .ref h_failing, .ref h_past, .int undoMany, .ref h_aside, .ref h_best, .ref h_tried, .ref h_kept, .ref h_keptPast, .int keptMany, .int isKept, .ref h_sheets], arf G h_sheets 7 4 shf, oc h_sheets_x 8 [.null], oc h_sheets_y 8 [.ref h_sheets_y_r], ai G h_sheets_y_r rn2 rw2] := hD
  refine lv_if_eq (tgt := 16) hx hb dX0_copy_5 (by decide) (fun c_2 => ?_) (fun c_2 => ?_)
  · replace hw := hw.1 c_2
    refine lv_iconst (v := (-1 : Int32)) hx hb dX0_copy_16 (by decide) ?_
    have hP9 := hP
    have hD9 := hD
    exact w_widen (k := 3) (n := 1010) (by first | exact Nat.le_of_ble_eq_true rfl | omega) (by first | exact Nat.le_of_ble_eq_true rfl | omega) (W.iret (v := (-1 : Int32)) hx hb hr (fun t ht hW => ⟨⟨(-1 : Int32), (), rfl, hw, by rw [ht]; exact hP9, hD9⟩, hS.F ht⟩) hS.2.2 dX0_copy_17)
  · replace hw := hw.2 c_2
    refine lv_iload_n hx hb dX0_copy_8 rfl (lv_at hl 3 rfl) ?_
    refine lv_iconst (v := (0 : Int32)) hx hb dX0_copy_9 (by decide) ?_
    have hPc := hP.sub (ws' := []) [] rfl
    have hDc := hD.sub (ws' := []) [] (by decide) rfl
    have hFc := va_free (wc := []) hD hS hA [] rfl
    refine va_calli (va_runS (As := [.int p3, .int (0 : Int32)]) (rest := []) ⟨hx, hb, hml, hown, hts⟩ (mt_X0_isSheet l G  H.size  p3 (0 : Int32) _ hw) (va_cwS 2 hts (lw_S q648 q649 q54 q650) rfl rfl rfl (by decide +kernel) ⟨Nat.le_of_ble_eq_true rfl, Nat.le_of_ble_eq_true rfl⟩) ⟨fun a U g mk q => by obtain ⟨q0, q1, qP, qK, qD⟩ := q; exact ⟨q0, q1, qP, qK.call, qD⟩, fun U hU hW => ⟨rfl, by rw [hU], by rw [hU]; exact hPc, hK.warm hW, hDc.weaken (fun _ _ _ _ => trivial)⟩⟩ rfl rfl hl.1 rfl (lv_room (Nat.le_of_ble_eq_true rfl)) dX0_copy_10 ⟨Nat.le_of_ble_eq_true rfl, Nat.le_of_ble_eq_true rfl⟩) hS (fun q _ h => hFc q h) hFc (fun r_3 _ t H1 locs ht hvm hw hB hz1 hk1 hS => ?_)
    obtain ⟨hP1, hD1⟩ := hB
    rw [ht] at hP1
    obtain ⟨hP, hD⟩ := va_join (wr := [oc h 0 [.ref h_kinds, .ref h_now, .ref h_fault, .ref h_tape, .int taped, .int reads, .ref h_got, .ref h_failing, .ref h_past, .int undoMany, .ref h_aside, .ref h_best, .ref h_tried, .ref h_kept, .ref h_keptPast, .int keptMany, .int isKept, .ref h_sheets], arf G h_sheets 7 4 shf, oc h_sheets_x 8 [.null], oc h_sheets_y 8 [.ref h_sheets_y_r], ai G h_sheets_y_r rn2 rw2]) (w1 := []) hP hD [] [0, 1, 2, 3, 4] rfl rfl (by decide) (by decide) hk1 hFc hP1 hD1
    clear hPc hDc hFc hP1 hD1 hz1 hk1 hvm
    generalize H1 = H at hP hS ⊢
    have hP : va_P G.1 gCl [oc h 0 [.ref h_kinds, .ref h_now, .ref h_fault, .ref h_tape, .int taped, .int reads, .ref h_got, .ref h_failing, .ref h_past, .int undoMany, .ref h_aside, .ref h_best, .ref h_tried, .ref h_kept, .ref h_keptPast, .int keptMany, .int isKept, .ref h_sheets], arf G h_sheets 7 4 shf, oc h_sheets_x 8 [.null], oc h_sheets_y 8 [.ref h_sheets_y_r], ai G h_sheets_y_r rn2 rw2] H := hP
    have hD : va_D A [oc h 0 [.ref h_kinds, .ref h_now, .ref h_fault, .ref h_tape, .int taped, .int reads, .ref h_got, .ref h_failing, .ref h_past, .int undoMany, .ref h_aside, .ref h_best, .ref h_tried, .ref h_kept, .ref h_keptPast, .int keptMany, .int isKept, .ref h_sheets], arf G h_sheets 7 4 shf, oc h_sheets_x 8 [.null], oc h_sheets_y 8 [.ref h_sheets_y_r], ai G h_sheets_y_r rn2 rw2] := hD
    refine lv_if_ne (tgt := 18) hx hb dX0_copy_13 (by decide) (fun c_4 => ?_) (fun c_4 => ?_)
    · replace hw := hw.1 c_4
      refine lv_aload_n hx hb dX0_copy_18 rfl (lv_at hl 0 rfl) ?_
      refine va_get (D := G.1) (ci := 0) (v := .ref h_sheets) (C := RX0) (T := TX0) (N := 18) hx hb hts in_X0 hown hK.1 hP 0 rfl rfl 17 (by decide) (hts _ q273) (fun _ h9 => h9) rfl dX0_copy_19 ?_
      refine lv_iload_n hx hb dX0_copy_22 rfl (lv_at hl 1 rfl) ?_
      obtain ⟨i_5, hw⟩ := hw
      refine z_aaldS hx hb hK.1 hP 1 7 rfl rfl i_5 dX0_copy_23 hsh ?_
      refine va_getN (D := G.1) (ci := 8) (v := .null) (C := RX8) (T := TX8) (N := 1) hx hb hts in_X8 hown hK.1 hP 2 rfl rfl 0 (by decide) (hK.n q251 rfl) (fun _ h9 => h9) rfl dX0_copy_24 ?_
      refine lv_iload_n hx hb dX0_copy_27 rfl (lv_at hl 2 rfl) ?_
      refine lv_aload_n hx hb dX0_copy_28 rfl (lv_at hl 0 rfl) ?_
      refine va_get (D := G.1) (ci := 0) (v := .ref h_sheets) (C := RX0) (T := TX0) (N := 18) hx hb hts in_X0 hown hK.1 hP 0 rfl rfl 17 (by decide) (hts _ q273) (fun _ h9 => h9) rfl dX0_copy_29 ?_
      refine lv_iload_n hx hb dX0_copy_32 rfl (lv_at hl 3 rfl) ?_
      obtain ⟨i_6, hw⟩ := hw
      refine z_aaldS hx hb hK.1 hP 1 7 rfl rfl i_6 dX0_copy_33 hsh2 ?_
      refine va_getN (D := G.1) (ci := 8) (v := .ref h_sheets_y_r) (C := RX8) (T := TX8) (N := 1) hx hb hts in_X8 hown hK.1 hP 3 rfl rfl 0 (by decide) (hK.n q251 rfl) (fun _ h9 => h9) rfl dX0_copy_34 ?_
      refine lv_iload hx hb dX0_copy_37 (lv_at hl 4 rfl) ?_
      refine lv_iload hx hb dX0_copy_39 (lv_at hl 5 rfl) ?_
      refine w_cpNull (a := none) (b := (some h_sheets_y_r)) (rest := []) ⟨hx, hb, hml.trans hl.1.symm, hts, hK, hX, hS, hP, hown, hts _ q512, hts _ q440, hts _ q439, hts _ q68, dX0_copy_41, Nat.le_of_ble_eq_true rfl, Nat.le_of_ble_eq_true rfl, Nat.le_of_ble_eq_true rfl, Nat.le_of_ble_eq_true rfl, Nat.le_of_ble_eq_true rfl⟩ (Or.inl rfl) (fun x_7 H hxo hP hS hz hk => ?_)
      obtain ⟨ce, hce, hcv, hcc⟩ := hxo
      refine wx_catch (cell := ce) hce (by rw [hcv]; rfl) [] ⟨18, 44, 47, 354⟩ [⟨18, 44, 52, 360⟩, ⟨18, 44, 57, 362⟩] hhd (fun _ _ z hz => by cases hz) (by decide) (by decide) hown (hts _ q734) (cT := ce.cls) hcc (vm_refl (args := #[]) (hK.n q756 rfl) hcc) ?_
      refine lv_astore (lv' := [(6, .ref x_7), (0, .ref h), (1, .int p1), (2, .int p2), (3, .int p3), (4, .int p4), (5, .int p5)]) hx hb dX0_copy_47 hl (by decide) rfl (fun ls hl => ?_)
      refine lv_bipush (v := (-11 : Int32)) hx hb dX0_copy_49 (by decide) ?_
      have hP9 := hP
      have hD9 := hD
      exact w_widen (k := 3) (n := 1010) (by first | exact Nat.le_of_ble_eq_true rfl | omega) (by first | exact Nat.le_of_ble_eq_true rfl | omega) (W.iret (v := (-11 : Int32)) hx hb hr (fun t ht hW => ⟨⟨(-11 : Int32), (), rfl, hw, by rw [ht]; exact hP9, hD9⟩, hS.F ht⟩) hS.2.2 dX0_copy_51)
    · replace hw := hw.2 c_4
      refine lv_iconst (v := (-1 : Int32)) hx hb dX0_copy_16 (by decide) ?_
      have hP9 := hP
      have hD9 := hD
      exact w_widen (k := 3) (n := 1010) (by first | exact Nat.le_of_ble_eq_true rfl | omega) (by first | exact Nat.le_of_ble_eq_true rfl | omega) (W.iret (v := (-1 : Int32)) hx hb hr (fun t ht hW => ⟨⟨(-1 : Int32), (), rfl, hw, by rw [ht]; exact hP9, hD9⟩, hS.F ht⟩) hS.2.2 dX0_copy_17)
/-! BattleBench.copy(IIIII)I -/
def wp_X0_copy_NJ (rn2 : Nat) (rw2 : Nat → Int64) (p1 : Int32) (p2 : Int32) (p3 : Int32) (p4 : Int32) (p5 : Int32) (Q : Int32 → Prop) : Prop :=
  wp_X0_isSheet  p1 (0 : Int32) (fun r_1 => (((r_1 = 0) → Q (-1 : Int32)) ∧ (¬ (r_1 = 0) → wp_X0_isSheet  p3 (0 : Int32) (fun r_3 => ((¬ (r_3 = 0) → (vp_in p1 4 ∧ (vp_in p3 4 ∧ Q (-11 : Int32)))) ∧ ((r_3 = 0) → Q (-1 : Int32)))))))
set_option maxHeartbeats 4000000 in
theorem mt_X0_copy_NJ (l : Launch) (G : GT) (aS : Nat) (hfl : l.flags = pinnedFlags ++ [noTraceFlag]) (h h_kinds h_now h_fault h_tape h_got h_failing h_past h_aside h_best h_tried h_kept h_keptPast h_sheets h_sheets_x h_sheets_y h_sheets_y_r : Nat) (shf : Nat → Option Nat) (sz : Nat) (taped : Int32) (reads : Int32) (undoMany : Int32) (keptMany : Int32) (isKept : Int32) (rn2 : Nat) (rw2 : Nat → Int64) (p1 : Int32) (p2 : Int32) (p3 : Int32) (p4 : Int32) (p5 : Int32)(hsh : shf p1.toNatClampNeg = some h_sheets_x) (hsh2 : shf p3.toNatClampNeg = some h_sheets_y) (Q : Int32 → Prop) (hw : wp_X0_copy_NJ rn2 rw2 p1 p2 p3 p4 p5 Q) : Met l yX0_copy (wsW_ yX0_copy cX0_copy 7 (some .int) [(18, 44, 47, 354), (18, 44, 52, 360), (18, 44, 57, 362)]) ({ frames := 9, cells := 3, slots := 1010, locals := 10248 } : Room) (va_Pc [.ref h, .int p1, .int p2, .int p3, .int p4, .int p5] (fun U => U.heap.size = sz ∧ va_P G.1 gCl [oc h 0 [.ref h_kinds, .ref h_now, .ref h_fault, .ref h_tape, .int taped, .int reads, .ref h_got, .ref h_failing, .ref h_past, .int undoMany, .ref h_aside, .ref h_best, .ref h_tried, .ref h_kept, .ref h_keptPast, .int keptMany, .int isKept, .ref h_sheets], arf G h_sheets 7 4 shf, oc h_sheets_x 8 [.null], oc h_sheets_y 8 [.ref h_sheets_y_r], al G h_sheets_y_r rn2 rw2] U.heap ∧ gK G U ∧ va_D (fun _ => True) [oc h 0 [.ref h_kinds, .ref h_now, .ref h_fault, .ref h_tape, .int taped, .int reads, .ref h_got, .ref h_failing, .ref h_past, .int undoMany, .ref h_aside, .ref h_best, .ref h_tried, .ref h_kept, .ref h_keptPast, .int keptMany, .int isKept, .ref h_sheets], arf G h_sheets 7 4 shf, oc h_sheets_x 8 [.null], oc h_sheets_y 8 [.ref h_sheets_y_r], al G h_sheets_y_r rn2 rw2] ∧ stS aS U)) ((fun A => (va_Qi (fun (r : Int32) (u : Unit) => Q r ) (fun u t => va_P G.1 gCl [oc h 0 [.ref h_kinds, .ref h_now, .ref h_fault, .ref h_tape, .int taped, .int reads, .ref h_got, .ref h_failing, .ref h_past, .int undoMany, .ref h_aside, .ref h_best, .ref h_tried, .ref h_kept, .ref h_keptPast, .int keptMany, .int isKept, .ref h_sheets], arf G h_sheets 7 4 shf, oc h_sheets_x 8 [.null], oc h_sheets_y 8 [.ref h_sheets_y_r], al G h_sheets_y_r rn2 rw2] t.heap ∧ va_D A [oc h 0 [.ref h_kinds, .ref h_now, .ref h_fault, .ref h_tape, .int taped, .int reads, .ref h_got, .ref h_failing, .ref h_past, .int undoMany, .ref h_aside, .ref h_best, .ref h_tried, .ref h_kept, .ref h_keptPast, .int keptMany, .int isKept, .ref h_sheets], arf G h_sheets 7 4 shf, oc h_sheets_x 8 [.null], oc h_sheets_y 8 [.ref h_sheets_y_r], al G h_sheets_y_r rn2 rw2]) A)) (va_A [oc h 0 [.ref h_kinds, .ref h_now, .ref h_fault, .ref h_tape, .int taped, .int reads, .ref h_got, .ref h_failing, .ref h_past, .int undoMany, .ref h_aside, .ref h_best, .ref h_tried, .ref h_kept, .ref h_keptPast, .int keptMany, .int isKept, .ref h_sheets], arf G h_sheets 7 4 shf, oc h_sheets_x 8 [.null], oc h_sheets_y 8 [.ref h_sheets_y_r], al G h_sheets_y_r rn2 rw2] sz)) 3 1010 (va_A [oc h 0 [.ref h_kinds, .ref h_now, .ref h_fault, .ref h_tape, .int taped, .int reads, .ref h_got, .ref h_failing, .ref h_past, .int undoMany, .ref h_aside, .ref h_best, .ref h_tried, .ref h_kept, .ref h_keptPast, .int keptMany, .int isKept, .ref h_sheets], arf G h_sheets 7 4 shf, oc h_sheets_x 8 [.null], oc h_sheets_y 8 [.ref h_sheets_y_r], al G h_sheets_y_r rn2 rw2] sz) := by
  refine va_MetW (hh := [(18, 44, 47, 354), (18, 44, 52, 360), (18, 44, 57, 362)]) (cc := cX0_copy) (maxL := 7) (ret := (some .int)) (by decide) rfl ?_
  intro p e s m args below meth c s₁ B hml hv
  obtain ⟨rfl, hsz, hP, hK, hD0, hst⟩ := hv
  have hx := B.exec
  have hb := B.bytes
  have hr := B.returns
  have hts := atoms_spec (ws := (wsW_ yX0_copy cX0_copy 7 (some .int) [(18, 44, 47, 354), (18, 44, 52, 360), (18, 44, 57, 362)])) B.pre
  have hts : ∀ w ∈ lw_all, w.before _ s = true := fun w h => hts w (List.mem_cons_of_mem _ h)
  have hown : s.vm.findClass RX0 = some m.cls := findClass_of_methodNamed B.named
  have hlocks := B.notSynchronized
  have hhd : c.exceptionTable.toList = [⟨18, 44, 47, 354⟩, ⟨18, 44, 52, 360⟩, ⟨18, 44, 57, 362⟩] := x_hand B (atoms_spec (ws := (wsW_ yX0_copy cX0_copy 7 (some .int) [(18, 44, 47, 354), (18, 44, 52, 360), (18, 44, 57, 362)])) B.pre _ List.mem_cons_self)
  subst hsz
  have hD := hD0.self (sz := s.heap.size)
  generalize hAe : va_A [oc h 0 [.ref h_kinds, .ref h_now, .ref h_fault, .ref h_tape, .int taped, .int reads, .ref h_got, .ref h_failing, .ref h_past, .int undoMany, .ref h_aside, .ref h_best, .ref h_tried, .ref h_kept, .ref h_keptPast, .int keptMany, .int isKept, .ref h_sheets], arf G h_sheets 7 4 shf, oc h_sheets_x 8 [.null], oc h_sheets_y 8 [.ref h_sheets_y_r], al G h_sheets_y_r rn2 rw2] s.heap.size = A at hD ⊢
  have hA : ∀ q : Nat, s.heap.size ≤ q → A q := fun q h => by rw [← hAe]; exact Or.inr h
  have hS : va_S A s.heap s.heap [] := va_S.rf
  have hX : XCx l aS s A := ⟨hfl, hst, fun q cell hq hc => va_A.ns hP (by rw [hAe]; exact hq) hc⟩
  have C : Cx p s m meth c cX0_copy 7 (some .int) RX0 ([.ref h, .int p1, .int p2, .int p3, .int p4, .int p5] : List Value).toArray G A := ⟨hx, hb, hr, hlocks, hml, hown, hts, hK, hA⟩
  have hl := lv_entry ([.ref h, .int p1, .int p2, .int p3, .int p4, .int p5]) (n := 7) (Nat.le_of_ble_eq_true rfl)
  rw [lg_entry_eq]
  generalize (lg_sl ([.ref h, .int p1, .int p2, .int p3, .int p4, .int p5]) ++ List.replicate (7 - (lg_sl ([.ref h, .int p1, .int p2, .int p3, .int p4, .int p5])).length) Slot.unset).toArray = ls at hl ⊢
  have hl : lv_has ls 7 [(0, .ref h), (1, .int p1), (2, .int p2), (3, .int p3), (4, .int p4), (5, .int p5)] := hl
  unfold wp_X0_copy_NJ at hw
  refine lv_iload_n hx hb dX0_copy_0 rfl (lv_at hl 1 rfl) ?_
  refine lv_iconst (v := (0 : Int32)) hx hb dX0_copy_1 (by decide) ?_
  have hPc := hP.sub (ws' := []) [] rfl
  have hDc := hD.sub (ws' := []) [] (by decide) rfl
  have hFc := va_free (wc := []) hD hS hA [] rfl
  refine va_calli (va_runS (As := [.int p1, .int (0 : Int32)]) (rest := []) ⟨hx, hb, hml, hown, hts⟩ (mt_X0_isSheet l G  s.heap.size  p1 (0 : Int32) _ hw) (va_cwS 2 hts (lw_S q648 q649 q54 q650) rfl rfl rfl (by decide +kernel) ⟨Nat.le_of_ble_eq_true rfl, Nat.le_of_ble_eq_true rfl⟩) ⟨fun a U g mk q => by obtain ⟨q0, q1, qP, qK, qD⟩ := q; exact ⟨q0, q1, qP, qK.call, qD⟩, fun U hU hW => ⟨rfl, by rw [hU], by rw [hU]; exact hPc, hK.warm hW, hDc.weaken (fun _ _ _ _ => trivial)⟩⟩ rfl rfl hl.1 rfl (lv_room (Nat.le_of_ble_eq_true rfl)) dX0_copy_2 ⟨Nat.le_of_ble_eq_true rfl, Nat.le_of_ble_eq_true rfl⟩) hS (fun q _ h => hFc q h) hFc (fun r_1 _ t H1 locs ht hvm hw hB hz1 hk1 hS => ?_)
  obtain ⟨hP1, hD1⟩ := hB
  rw [ht] at hP1
  obtain ⟨hP, hD⟩ := va_join (wr := [oc h 0 [.ref h_kinds, .ref h_now, .ref h_fault, .ref h_tape, .int taped, .int reads, .ref h_got, .ref h_failing, .ref h_past, .int undoMany, .ref h_aside, .ref h_best, .ref h_tried, .ref h_kept, .ref h_keptPast, .int keptMany, .int isKept, .ref h_sheets], arf G h_sheets 7 4 shf, oc h_sheets_x 8 [.null], oc h_sheets_y 8 [.ref h_sheets_y_r], al G h_sheets_y_r rn2 rw2]) (w1 := []) hP hD [] [0, 1, 2, 3, 4] rfl rfl (by decide) (by decide) hk1 hFc hP1 hD1
  clear hPc hDc hFc hP1 hD1 hz1 hk1 hvm
  generalize H1 = H at hP hS ⊢
  have hP : va_P G.1 gCl [oc h 0 [.ref h_kinds, .ref h_now, .ref h_fault, .ref h_tape, .int taped, .int reads, .ref h_got, .ref h_failing, .ref h_past, .int undoMany, .ref h_aside, .ref h_best, .ref h_tried, .ref h_kept, .ref h_keptPast, .int keptMany, .int isKept, .ref h_sheets], arf G h_sheets 7 4 shf, oc h_sheets_x 8 [.null], oc h_sheets_y 8 [.ref h_sheets_y_r], al G h_sheets_y_r rn2 rw2] H := hP
  have hD : va_D A [oc h 0 [.ref h_kinds, .ref h_now, .ref h_fault, .ref h_tape, .int taped, .int reads, .ref h_got, .ref h_failing, .ref h_past, .int undoMany, .ref h_aside, .ref h_best, .ref h_tried, .ref h_kept, .ref h_keptPast, .int keptMany, .int isKept, .ref h_sheets], arf G h_sheets 7 4 shf, oc h_sheets_x 8 [.null], oc h_sheets_y 8 [.ref h_sheets_y_r], al G h_sheets_y_r rn2 rw2] := hD
  refine lv_if_eq (tgt := 16) hx hb dX0_copy_5 (by decide) (fun c_2 => ?_) (fun c_2 => ?_)
  · replace hw := hw.1 c_2
    refine lv_iconst (v := (-1 : Int32)) hx hb dX0_copy_16 (by decide) ?_
    have hP9 := hP
    have hD9 := hD
    exact w_widen (k := 3) (n := 1010) (by first | exact Nat.le_of_ble_eq_true rfl | omega) (by first | exact Nat.le_of_ble_eq_true rfl | omega) (W.iret (v := (-1 : Int32)) hx hb hr (fun t ht hW => ⟨⟨(-1 : Int32), (), rfl, hw, by rw [ht]; exact hP9, hD9⟩, hS.F ht⟩) hS.2.2 dX0_copy_17)
  · replace hw := hw.2 c_2
    refine lv_iload_n hx hb dX0_copy_8 rfl (lv_at hl 3 rfl) ?_
    refine lv_iconst (v := (0 : Int32)) hx hb dX0_copy_9 (by decide) ?_
    have hPc := hP.sub (ws' := []) [] rfl
    have hDc := hD.sub (ws' := []) [] (by decide) rfl
    have hFc := va_free (wc := []) hD hS hA [] rfl
    refine va_calli (va_runS (As := [.int p3, .int (0 : Int32)]) (rest := []) ⟨hx, hb, hml, hown, hts⟩ (mt_X0_isSheet l G  H.size  p3 (0 : Int32) _ hw) (va_cwS 2 hts (lw_S q648 q649 q54 q650) rfl rfl rfl (by decide +kernel) ⟨Nat.le_of_ble_eq_true rfl, Nat.le_of_ble_eq_true rfl⟩) ⟨fun a U g mk q => by obtain ⟨q0, q1, qP, qK, qD⟩ := q; exact ⟨q0, q1, qP, qK.call, qD⟩, fun U hU hW => ⟨rfl, by rw [hU], by rw [hU]; exact hPc, hK.warm hW, hDc.weaken (fun _ _ _ _ => trivial)⟩⟩ rfl rfl hl.1 rfl (lv_room (Nat.le_of_ble_eq_true rfl)) dX0_copy_10 ⟨Nat.le_of_ble_eq_true rfl, Nat.le_of_ble_eq_true rfl⟩) hS (fun q _ h => hFc q h) hFc (fun r_3 _ t H1 locs ht hvm hw hB hz1 hk1 hS => ?_)
    obtain ⟨hP1, hD1⟩ := hB
    rw [ht] at hP1
    obtain ⟨hP, hD⟩ := va_join (wr := [oc h 0 [.ref h_kinds, .ref h_now, .ref h_fault, .ref h_tape, .int taped, .int reads, .ref h_got, .ref h_failing, .ref h_past, .int undoMany, .ref h_aside, .ref h_best, .ref h_tried, .ref h_kept, .ref h_keptPast, .int keptMany, .int isKept, .ref h_sheets], arf G h_sheets 7 4 shf, oc h_sheets_x 8 [.null], oc h_sheets_y 8 [.ref h_sheets_y_r], al G h_sheets_y_r rn2 rw2]) (w1 := []) hP hD [] [0, 1, 2, 3, 4] rfl rfl (by decide) (by decide) hk1 hFc hP1 hD1
    clear hPc hDc hFc hP1 hD1 hz1 hk1 hvm
    generalize H1 = H at hP hS ⊢
    have hP : va_P G.1 gCl [oc h 0 [.ref h_kinds, .ref h_now, .ref h_fault, .ref h_tape, .int taped, .int reads, .ref h_got, .ref h_failing, .ref h_past, .int undoMany, .ref h_aside, .ref h_best, .ref h_tried, .ref h_kept, .ref h_keptPast, .int keptMany, .int isKept, .ref h_sheets], arf G h_sheets 7 4 shf, oc h_sheets_x 8 [.null], oc h_sheets_y 8 [.ref h_sheets_y_r], al G h_sheets_y_r rn2 rw2] H := hP
    have hD : va_D A [oc h 0 [.ref h_kinds, .ref h_now, .ref h_fault, .ref h_tape, .int taped, .int reads, .ref h_got, .ref h_failing, .ref h_past, .int undoMany, .ref h_aside, .ref h_best, .ref h_tried, .ref h_kept, .ref h_keptPast, .int keptMany, .int isKept, .ref h_sheets], arf G h_sheets 7 4 shf, oc h_sheets_x 8 [.null], oc h_sheets_y 8 [.ref h_sheets_y_r], al G h_sheets_y_r rn2 rw2] := hD
    refine lv_if_ne (tgt := 18) hx hb dX0_copy_13 (by decide) (fun c_4 => ?_) (fun c_4 => ?_)
    · replace hw := hw.1 c_4
      refine lv_aload_n hx hb dX0_copy_18 rfl (lv_at hl 0 rfl) ?_
      refine va_get (D := G.1) (ci := 0) (v := .ref h_sheets) (C := RX0) (T := TX0) (N := 18) hx hb hts in_X0 hown hK.1 hP 0 rfl rfl 17 (by decide) (hts _ q273) (fun _ h9 => h9) rfl dX0_copy_19 ?_
      refine lv_iload_n hx hb dX0_copy_22 rfl (lv_at hl 1 rfl) ?_
      obtain ⟨i_5, hw⟩ := hw
      refine z_aaldS hx hb hK.1 hP 1 7 rfl rfl i_5 dX0_copy_23 hsh ?_
      refine va_getN (D := G.1) (ci := 8) (v := .null) (C := RX8) (T := TX8) (N := 1) hx hb hts in_X8 hown hK.1 hP 2 rfl rfl 0 (by decide) (hK.n q251 rfl) (fun _ h9 => h9) rfl dX0_copy_24 ?_
      refine lv_iload_n hx hb dX0_copy_27 rfl (lv_at hl 2 rfl) ?_
      refine lv_aload_n hx hb dX0_copy_28 rfl (lv_at hl 0 rfl) ?_
      refine va_get (D := G.1) (ci := 0) (v := .ref h_sheets) (C := RX0) (T := TX0) (N := 18) hx hb hts in_X0 hown hK.1 hP 0 rfl rfl 17 (by decide) (hts _ q273) (fun _ h9 => h9) rfl dX0_copy_29 ?_
      refine lv_iload_n hx hb dX0_copy_32 rfl (lv_at hl 3 rfl) ?_
      obtain ⟨i_6, hw⟩ := hw
      refine z_aaldS hx hb hK.1 hP 1 7 rfl rfl i_6 dX0_copy_33 hsh2 ?_
      refine va_getN (D := G.1) (ci := 8) (v := .ref h_sheets_y_r) (C := RX8) (T := TX8) (N := 1) hx hb hts in_X8 hown hK.1 hP 3 rfl rfl 0 (by decide) (hK.n q251 rfl) (fun _ h9 => h9) rfl dX0_copy_34 ?_
      refine lv_iload hx hb dX0_copy_37 (lv_at hl 4 rfl) ?_
      refine lv_iload hx hb dX0_copy_39 (lv_at hl 5 rfl) ?_
      refine w_cpNull (a := none) (b := (some h_sheets_y_r)) (rest := []) ⟨hx, hb, hml.trans hl.1.symm, hts, hK, hX, hS, hP, hown, hts _ q512, hts _ q440, hts _ q439, hts _ q68, dX0_copy_41, Nat.le_of_ble_eq_true rfl, Nat.le_of_ble_eq_true rfl, Nat.le_of_ble_eq_true rfl, Nat.le_of_ble_eq_true rfl, Nat.le_of_ble_eq_true rfl⟩ (Or.inl rfl) (fun x_7 H hxo hP hS hz hk => ?_)
      obtain ⟨ce, hce, hcv, hcc⟩ := hxo
      refine wx_catch (cell := ce) hce (by rw [hcv]; rfl) [] ⟨18, 44, 47, 354⟩ [⟨18, 44, 52, 360⟩, ⟨18, 44, 57, 362⟩] hhd (fun _ _ z hz => by cases hz) (by decide) (by decide) hown (hts _ q734) (cT := ce.cls) hcc (vm_refl (args := #[]) (hK.n q756 rfl) hcc) ?_
      refine lv_astore (lv' := [(6, .ref x_7), (0, .ref h), (1, .int p1), (2, .int p2), (3, .int p3), (4, .int p4), (5, .int p5)]) hx hb dX0_copy_47 hl (by decide) rfl (fun ls hl => ?_)
      refine lv_bipush (v := (-11 : Int32)) hx hb dX0_copy_49 (by decide) ?_
      have hP9 := hP
      have hD9 := hD
      exact w_widen (k := 3) (n := 1010) (by first | exact Nat.le_of_ble_eq_true rfl | omega) (by first | exact Nat.le_of_ble_eq_true rfl | omega) (W.iret (v := (-11 : Int32)) hx hb hr (fun t ht hW => ⟨⟨(-11 : Int32), (), rfl, hw, by rw [ht]; exact hP9, hD9⟩, hS.F ht⟩) hS.2.2 dX0_copy_51)
    · replace hw := hw.2 c_4
      refine lv_iconst (v := (-1 : Int32)) hx hb dX0_copy_16 (by decide) ?_
      have hP9 := hP
      have hD9 := hD
      exact w_widen (k := 3) (n := 1010) (by first | exact Nat.le_of_ble_eq_true rfl | omega) (by first | exact Nat.le_of_ble_eq_true rfl | omega) (W.iret (v := (-1 : Int32)) hx hb hr (fun t ht hW => ⟨⟨(-1 : Int32), (), rfl, hw, by rw [ht]; exact hP9, hD9⟩, hS.F ht⟩) hS.2.2 dX0_copy_17)
/-! BattleBench.copy(IIIII)I -/
def wp_X0_copy_NN (p1 : Int32) (p2 : Int32) (p3 : Int32) (p4 : Int32) (p5 : Int32) (Q : Int32 → Prop) : Prop :=
  wp_X0_isSheet  p1 (0 : Int32) (fun r_1 => (((r_1 = 0) → Q (-1 : Int32)) ∧ (¬ (r_1 = 0) → wp_X0_isSheet  p3 (0 : Int32) (fun r_3 => ((¬ (r_3 = 0) → (vp_in p1 4 ∧ (vp_in p3 4 ∧ Q (-11 : Int32)))) ∧ ((r_3 = 0) → Q (-1 : Int32)))))))
set_option maxHeartbeats 4000000 in
theorem mt_X0_copy_NN (l : Launch) (G : GT) (aS : Nat) (hfl : l.flags = pinnedFlags ++ [noTraceFlag]) (h h_kinds h_now h_fault h_tape h_got h_failing h_past h_aside h_best h_tried h_kept h_keptPast h_sheets h_sheets_x h_sheets_y : Nat) (shf : Nat → Option Nat) (sz : Nat) (taped : Int32) (reads : Int32) (undoMany : Int32) (keptMany : Int32) (isKept : Int32) (p1 : Int32) (p2 : Int32) (p3 : Int32) (p4 : Int32) (p5 : Int32)(hsh : shf p1.toNatClampNeg = some h_sheets_x) (hsh2 : shf p3.toNatClampNeg = some h_sheets_y) (Q : Int32 → Prop) (hw : wp_X0_copy_NN p1 p2 p3 p4 p5 Q) : Met l yX0_copy (wsW_ yX0_copy cX0_copy 7 (some .int) [(18, 44, 47, 354), (18, 44, 52, 360), (18, 44, 57, 362)]) ({ frames := 9, cells := 3, slots := 1010, locals := 10248 } : Room) (va_Pc [.ref h, .int p1, .int p2, .int p3, .int p4, .int p5] (fun U => U.heap.size = sz ∧ va_P G.1 gCl [oc h 0 [.ref h_kinds, .ref h_now, .ref h_fault, .ref h_tape, .int taped, .int reads, .ref h_got, .ref h_failing, .ref h_past, .int undoMany, .ref h_aside, .ref h_best, .ref h_tried, .ref h_kept, .ref h_keptPast, .int keptMany, .int isKept, .ref h_sheets], arf G h_sheets 7 4 shf, oc h_sheets_x 8 [.null], oc h_sheets_y 8 [.null]] U.heap ∧ gK G U ∧ va_D (fun _ => True) [oc h 0 [.ref h_kinds, .ref h_now, .ref h_fault, .ref h_tape, .int taped, .int reads, .ref h_got, .ref h_failing, .ref h_past, .int undoMany, .ref h_aside, .ref h_best, .ref h_tried, .ref h_kept, .ref h_keptPast, .int keptMany, .int isKept, .ref h_sheets], arf G h_sheets 7 4 shf, oc h_sheets_x 8 [.null], oc h_sheets_y 8 [.null]] ∧ stS aS U)) ((fun A => (va_Qi (fun (r : Int32) (u : Unit) => Q r ) (fun u t => va_P G.1 gCl [oc h 0 [.ref h_kinds, .ref h_now, .ref h_fault, .ref h_tape, .int taped, .int reads, .ref h_got, .ref h_failing, .ref h_past, .int undoMany, .ref h_aside, .ref h_best, .ref h_tried, .ref h_kept, .ref h_keptPast, .int keptMany, .int isKept, .ref h_sheets], arf G h_sheets 7 4 shf, oc h_sheets_x 8 [.null], oc h_sheets_y 8 [.null]] t.heap ∧ va_D A [oc h 0 [.ref h_kinds, .ref h_now, .ref h_fault, .ref h_tape, .int taped, .int reads, .ref h_got, .ref h_failing, .ref h_past, .int undoMany, .ref h_aside, .ref h_best, .ref h_tried, .ref h_kept, .ref h_keptPast, .int keptMany, .int isKept, .ref h_sheets], arf G h_sheets 7 4 shf, oc h_sheets_x 8 [.null], oc h_sheets_y 8 [.null]]) A)) (va_A [oc h 0 [.ref h_kinds, .ref h_now, .ref h_fault, .ref h_tape, .int taped, .int reads, .ref h_got, .ref h_failing, .ref h_past, .int undoMany, .ref h_aside, .ref h_best, .ref h_tried, .ref h_kept, .ref h_keptPast, .int keptMany, .int isKept, .ref h_sheets], arf G h_sheets 7 4 shf, oc h_sheets_x 8 [.null], oc h_sheets_y 8 [.null]] sz)) 3 1010 (va_A [oc h 0 [.ref h_kinds, .ref h_now, .ref h_fault, .ref h_tape, .int taped, .int reads, .ref h_got, .ref h_failing, .ref h_past, .int undoMany, .ref h_aside, .ref h_best, .ref h_tried, .ref h_kept, .ref h_keptPast, .int keptMany, .int isKept, .ref h_sheets], arf G h_sheets 7 4 shf, oc h_sheets_x 8 [.null], oc h_sheets_y 8 [.null]] sz) := by
  refine va_MetW (hh := [(18, 44, 47, 354), (18, 44, 52, 360), (18, 44, 57, 362)]) (cc := cX0_copy) (maxL := 7) (ret := (some .int)) (by decide) rfl ?_
  intro p e s m args below meth c s₁ B hml hv
  obtain ⟨rfl, hsz, hP, hK, hD0, hst⟩ := hv
  have hx := B.exec
  have hb := B.bytes
  have hr := B.returns
  have hts := atoms_spec (ws := (wsW_ yX0_copy cX0_copy 7 (some .int) [(18, 44, 47, 354), (18, 44, 52, 360), (18, 44, 57, 362)])) B.pre
  have hts : ∀ w ∈ lw_all, w.before _ s = true := fun w h => hts w (List.mem_cons_of_mem _ h)
  have hown : s.vm.findClass RX0 = some m.cls := findClass_of_methodNamed B.named
  have hlocks := B.notSynchronized
  have hhd : c.exceptionTable.toList = [⟨18, 44, 47, 354⟩, ⟨18, 44, 52, 360⟩, ⟨18, 44, 57, 362⟩] := x_hand B (atoms_spec (ws := (wsW_ yX0_copy cX0_copy 7 (some .int) [(18, 44, 47, 354), (18, 44, 52, 360), (18, 44, 57, 362)])) B.pre _ List.mem_cons_self)
  subst hsz
  have hD := hD0.self (sz := s.heap.size)
  generalize hAe : va_A [oc h 0 [.ref h_kinds, .ref h_now, .ref h_fault, .ref h_tape, .int taped, .int reads, .ref h_got, .ref h_failing, .ref h_past, .int undoMany, .ref h_aside, .ref h_best, .ref h_tried, .ref h_kept, .ref h_keptPast, .int keptMany, .int isKept, .ref h_sheets], arf G h_sheets 7 4 shf, oc h_sheets_x 8 [.null], oc h_sheets_y 8 [.null]] s.heap.size = A at hD ⊢
  have hA : ∀ q : Nat, s.heap.size ≤ q → A q := fun q h => by rw [← hAe]; exact Or.inr h
  have hS : va_S A s.heap s.heap [] := va_S.rf
  have hX : XCx l aS s A := ⟨hfl, hst, fun q cell hq hc => va_A.ns hP (by rw [hAe]; exact hq) hc⟩
  have C : Cx p s m meth c cX0_copy 7 (some .int) RX0 ([.ref h, .int p1, .int p2, .int p3, .int p4, .int p5] : List Value).toArray G A := ⟨hx, hb, hr, hlocks, hml, hown, hts, hK, hA⟩
  have hl := lv_entry ([.ref h, .int p1, .int p2, .int p3, .int p4, .int p5]) (n := 7) (Nat.le_of_ble_eq_true rfl)
  rw [lg_entry_eq]
  generalize (lg_sl ([.ref h, .int p1, .int p2, .int p3, .int p4, .int p5]) ++ List.replicate (7 - (lg_sl ([.ref h, .int p1, .int p2, .int p3, .int p4, .int p5])).length) Slot.unset).toArray = ls at hl ⊢
  have hl : lv_has ls 7 [(0, .ref h), (1, .int p1), (2, .int p2), (3, .int p3), (4, .int p4), (5, .int p5)] := hl
  unfold wp_X0_copy_NN at hw
  refine lv_iload_n hx hb dX0_copy_0 rfl (lv_at hl 1 rfl) ?_
  refine lv_iconst (v := (0 : Int32)) hx hb dX0_copy_1 (by decide) ?_
  have hPc := hP.sub (ws' := []) [] rfl
  have hDc := hD.sub (ws' := []) [] (by decide) rfl
  have hFc := va_free (wc := []) hD hS hA [] rfl
  refine va_calli (va_runS (As := [.int p1, .int (0 : Int32)]) (rest := []) ⟨hx, hb, hml, hown, hts⟩ (mt_X0_isSheet l G  s.heap.size  p1 (0 : Int32) _ hw) (va_cwS 2 hts (lw_S q648 q649 q54 q650) rfl rfl rfl (by decide +kernel) ⟨Nat.le_of_ble_eq_true rfl, Nat.le_of_ble_eq_true rfl⟩) ⟨fun a U g mk q => by obtain ⟨q0, q1, qP, qK, qD⟩ := q; exact ⟨q0, q1, qP, qK.call, qD⟩, fun U hU hW => ⟨rfl, by rw [hU], by rw [hU]; exact hPc, hK.warm hW, hDc.weaken (fun _ _ _ _ => trivial)⟩⟩ rfl rfl hl.1 rfl (lv_room (Nat.le_of_ble_eq_true rfl)) dX0_copy_2 ⟨Nat.le_of_ble_eq_true rfl, Nat.le_of_ble_eq_true rfl⟩) hS (fun q _ h => hFc q h) hFc (fun r_1 _ t H1 locs ht hvm hw hB hz1 hk1 hS => ?_)
  obtain ⟨hP1, hD1⟩ := hB
  rw [ht] at hP1
  obtain ⟨hP, hD⟩ := va_join (wr := [oc h 0 [.ref h_kinds, .ref h_now, .ref h_fault, .ref h_tape, .int taped, .int reads, .ref h_got, .ref h_failing, .ref h_past, .int undoMany, .ref h_aside, .ref h_best, .ref h_tried, .ref h_kept, .ref h_keptPast, .int keptMany, .int isKept, .ref h_sheets], arf G h_sheets 7 4 shf, oc h_sheets_x 8 [.null], oc h_sheets_y 8 [.null]]) (w1 := []) hP hD [] [0, 1, 2, 3] rfl rfl (by decide) (by decide) hk1 hFc hP1 hD1
  clear hPc hDc hFc hP1 hD1 hz1 hk1 hvm
  generalize H1 = H at hP hS ⊢
  have hP : va_P G.1 gCl [oc h 0 [.ref h_kinds, .ref h_now, .ref h_fault, .ref h_tape, .int taped, .int reads, .ref h_got, .ref h_failing, .ref h_past, .int undoMany, .ref h_aside, .ref h_best, .ref h_tried, .ref h_kept, .ref h_keptPast, .int keptMany, .int isKept, .ref h_sheets], arf G h_sheets 7 4 shf, oc h_sheets_x 8 [.null], oc h_sheets_y 8 [.null]] H := hP
  have hD : va_D A [oc h 0 [.ref h_kinds, .ref h_now, .ref h_fault, .ref h_tape, .int taped, .int reads, .ref h_got, .ref h_failing, .ref h_past, .int undoMany, .ref h_aside, .ref h_best, .ref h_tried, .ref h_kept, .ref h_keptPast, .int keptMany, .int isKept, .ref h_sheets], arf G h_sheets 7 4 shf, oc h_sheets_x 8 [.null], oc h_sheets_y 8 [.null]] := hD
  refine lv_if_eq (tgt := 16) hx hb dX0_copy_5 (by decide) (fun c_2 => ?_) (fun c_2 => ?_)
  · replace hw := hw.1 c_2
    refine lv_iconst (v := (-1 : Int32)) hx hb dX0_copy_16 (by decide) ?_
    have hP9 := hP
    have hD9 := hD
    exact w_widen (k := 3) (n := 1010) (by first | exact Nat.le_of_ble_eq_true rfl | omega) (by first | exact Nat.le_of_ble_eq_true rfl | omega) (W.iret (v := (-1 : Int32)) hx hb hr (fun t ht hW => ⟨⟨(-1 : Int32), (), rfl, hw, by rw [ht]; exact hP9, hD9⟩, hS.F ht⟩) hS.2.2 dX0_copy_17)
  · replace hw := hw.2 c_2
    refine lv_iload_n hx hb dX0_copy_8 rfl (lv_at hl 3 rfl) ?_
    refine lv_iconst (v := (0 : Int32)) hx hb dX0_copy_9 (by decide) ?_
    have hPc := hP.sub (ws' := []) [] rfl
    have hDc := hD.sub (ws' := []) [] (by decide) rfl
    have hFc := va_free (wc := []) hD hS hA [] rfl
    refine va_calli (va_runS (As := [.int p3, .int (0 : Int32)]) (rest := []) ⟨hx, hb, hml, hown, hts⟩ (mt_X0_isSheet l G  H.size  p3 (0 : Int32) _ hw) (va_cwS 2 hts (lw_S q648 q649 q54 q650) rfl rfl rfl (by decide +kernel) ⟨Nat.le_of_ble_eq_true rfl, Nat.le_of_ble_eq_true rfl⟩) ⟨fun a U g mk q => by obtain ⟨q0, q1, qP, qK, qD⟩ := q; exact ⟨q0, q1, qP, qK.call, qD⟩, fun U hU hW => ⟨rfl, by rw [hU], by rw [hU]; exact hPc, hK.warm hW, hDc.weaken (fun _ _ _ _ => trivial)⟩⟩ rfl rfl hl.1 rfl (lv_room (Nat.le_of_ble_eq_true rfl)) dX0_copy_10 ⟨Nat.le_of_ble_eq_true rfl, Nat.le_of_ble_eq_true rfl⟩) hS (fun q _ h => hFc q h) hFc (fun r_3 _ t H1 locs ht hvm hw hB hz1 hk1 hS => ?_)
    obtain ⟨hP1, hD1⟩ := hB
    rw [ht] at hP1
    obtain ⟨hP, hD⟩ := va_join (wr := [oc h 0 [.ref h_kinds, .ref h_now, .ref h_fault, .ref h_tape, .int taped, .int reads, .ref h_got, .ref h_failing, .ref h_past, .int undoMany, .ref h_aside, .ref h_best, .ref h_tried, .ref h_kept, .ref h_keptPast, .int keptMany, .int isKept, .ref h_sheets], arf G h_sheets 7 4 shf, oc h_sheets_x 8 [.null], oc h_sheets_y 8 [.null]]) (w1 := []) hP hD [] [0, 1, 2, 3] rfl rfl (by decide) (by decide) hk1 hFc hP1 hD1
    clear hPc hDc hFc hP1 hD1 hz1 hk1 hvm
    generalize H1 = H at hP hS ⊢
    have hP : va_P G.1 gCl [oc h 0 [.ref h_kinds, .ref h_now, .ref h_fault, .ref h_tape, .int taped, .int reads, .ref h_got, .ref h_failing, .ref h_past, .int undoMany, .ref h_aside, .ref h_best, .ref h_tried, .ref h_kept, .ref h_keptPast, .int keptMany, .int isKept, .ref h_sheets], arf G h_sheets 7 4 shf, oc h_sheets_x 8 [.null], oc h_sheets_y 8 [.null]] H := hP
    have hD : va_D A [oc h 0 [.ref h_kinds, .ref h_now, .ref h_fault, .ref h_tape, .int taped, .int reads, .ref h_got, .ref h_failing, .ref h_past, .int undoMany, .ref h_aside, .ref h_best, .ref h_tried, .ref h_kept, .ref h_keptPast, .int keptMany, .int isKept, .ref h_sheets], arf G h_sheets 7 4 shf, oc h_sheets_x 8 [.null], oc h_sheets_y 8 [.null]] := hD
    refine lv_if_ne (tgt := 18) hx hb dX0_copy_13 (by decide) (fun c_4 => ?_) (fun c_4 => ?_)
    · replace hw := hw.1 c_4
      refine lv_aload_n hx hb dX0_copy_18 rfl (lv_at hl 0 rfl) ?_
      refine va_get (D := G.1) (ci := 0) (v := .ref h_sheets) (C := RX0) (T := TX0) (N := 18) hx hb hts in_X0 hown hK.1 hP 0 rfl rfl 17 (by decide) (hts _ q273) (fun _ h9 => h9) rfl dX0_copy_19 ?_
      refine lv_iload_n hx hb dX0_copy_22 rfl (lv_at hl 1 rfl) ?_
      obtain ⟨i_5, hw⟩ := hw
      refine z_aaldS hx hb hK.1 hP 1 7 rfl rfl i_5 dX0_copy_23 hsh ?_
      refine va_getN (D := G.1) (ci := 8) (v := .null) (C := RX8) (T := TX8) (N := 1) hx hb hts in_X8 hown hK.1 hP 2 rfl rfl 0 (by decide) (hK.n q251 rfl) (fun _ h9 => h9) rfl dX0_copy_24 ?_
      refine lv_iload_n hx hb dX0_copy_27 rfl (lv_at hl 2 rfl) ?_
      refine lv_aload_n hx hb dX0_copy_28 rfl (lv_at hl 0 rfl) ?_
      refine va_get (D := G.1) (ci := 0) (v := .ref h_sheets) (C := RX0) (T := TX0) (N := 18) hx hb hts in_X0 hown hK.1 hP 0 rfl rfl 17 (by decide) (hts _ q273) (fun _ h9 => h9) rfl dX0_copy_29 ?_
      refine lv_iload_n hx hb dX0_copy_32 rfl (lv_at hl 3 rfl) ?_
      obtain ⟨i_6, hw⟩ := hw
      refine z_aaldS hx hb hK.1 hP 1 7 rfl rfl i_6 dX0_copy_33 hsh2 ?_
      refine va_getN (D := G.1) (ci := 8) (v := .null) (C := RX8) (T := TX8) (N := 1) hx hb hts in_X8 hown hK.1 hP 3 rfl rfl 0 (by decide) (hK.n q251 rfl) (fun _ h9 => h9) rfl dX0_copy_34 ?_
      refine lv_iload hx hb dX0_copy_37 (lv_at hl 4 rfl) ?_
      refine lv_iload hx hb dX0_copy_39 (lv_at hl 5 rfl) ?_
      refine w_cpNull (a := none) (b := none) (rest := []) ⟨hx, hb, hml.trans hl.1.symm, hts, hK, hX, hS, hP, hown, hts _ q512, hts _ q440, hts _ q439, hts _ q68, dX0_copy_41, Nat.le_of_ble_eq_true rfl, Nat.le_of_ble_eq_true rfl, Nat.le_of_ble_eq_true rfl, Nat.le_of_ble_eq_true rfl, Nat.le_of_ble_eq_true rfl⟩ (Or.inl rfl) (fun x_7 H hxo hP hS hz hk => ?_)
      obtain ⟨ce, hce, hcv, hcc⟩ := hxo
      refine wx_catch (cell := ce) hce (by rw [hcv]; rfl) [] ⟨18, 44, 47, 354⟩ [⟨18, 44, 52, 360⟩, ⟨18, 44, 57, 362⟩] hhd (fun _ _ z hz => by cases hz) (by decide) (by decide) hown (hts _ q734) (cT := ce.cls) hcc (vm_refl (args := #[]) (hK.n q756 rfl) hcc) ?_
      refine lv_astore (lv' := [(6, .ref x_7), (0, .ref h), (1, .int p1), (2, .int p2), (3, .int p3), (4, .int p4), (5, .int p5)]) hx hb dX0_copy_47 hl (by decide) rfl (fun ls hl => ?_)
      refine lv_bipush (v := (-11 : Int32)) hx hb dX0_copy_49 (by decide) ?_
      have hP9 := hP
      have hD9 := hD
      exact w_widen (k := 3) (n := 1010) (by first | exact Nat.le_of_ble_eq_true rfl | omega) (by first | exact Nat.le_of_ble_eq_true rfl | omega) (W.iret (v := (-11 : Int32)) hx hb hr (fun t ht hW => ⟨⟨(-11 : Int32), (), rfl, hw, by rw [ht]; exact hP9, hD9⟩, hS.F ht⟩) hS.2.2 dX0_copy_51)
    · replace hw := hw.2 c_4
      refine lv_iconst (v := (-1 : Int32)) hx hb dX0_copy_16 (by decide) ?_
      have hP9 := hP
      have hD9 := hD
      exact w_widen (k := 3) (n := 1010) (by first | exact Nat.le_of_ble_eq_true rfl | omega) (by first | exact Nat.le_of_ble_eq_true rfl | omega) (W.iret (v := (-1 : Int32)) hx hb hr (fun t ht hW => ⟨⟨(-1 : Int32), (), rfl, hw, by rw [ht]; exact hP9, hD9⟩, hS.F ht⟩) hS.2.2 dX0_copy_17)
/-! BattleBench.copy(IIIII)I -/
def wp_X0_copy_Ne (p1 : Int32) (p2 : Int32) (p3 : Int32) (p4 : Int32) (p5 : Int32) (Q : Int32 → Prop) : Prop :=
  wp_X0_isSheet  p1 (0 : Int32) (fun r_1 => (((r_1 = 0) → Q (-1 : Int32)) ∧ (¬ (r_1 = 0) → wp_X0_isSheet  p3 (0 : Int32) (fun r_3 => ((¬ (r_3 = 0) → (vp_in p1 4 ∧ (vp_in p3 4 ∧ Q (-11 : Int32)))) ∧ ((r_3 = 0) → Q (-1 : Int32)))))))
set_option maxHeartbeats 4000000 in
theorem mt_X0_copy_Ne (l : Launch) (G : GT) (aS : Nat) (hfl : l.flags = pinnedFlags ++ [noTraceFlag]) (h h_kinds h_now h_fault h_tape h_got h_failing h_past h_aside h_best h_tried h_kept h_keptPast h_sheets h_sheets_x : Nat) (shf : Nat → Option Nat) (sz : Nat) (taped : Int32) (reads : Int32) (undoMany : Int32) (keptMany : Int32) (isKept : Int32) (p1 : Int32) (p2 : Int32) (p3 : Int32) (p4 : Int32) (p5 : Int32)(hsh : shf p1.toNatClampNeg = some h_sheets_x) (hsh2 : shf p3.toNatClampNeg = some h_sheets_x) (Q : Int32 → Prop) (hw : wp_X0_copy_Ne p1 p2 p3 p4 p5 Q) : Met l yX0_copy (wsW_ yX0_copy cX0_copy 7 (some .int) [(18, 44, 47, 354), (18, 44, 52, 360), (18, 44, 57, 362)]) ({ frames := 9, cells := 3, slots := 1010, locals := 10248 } : Room) (va_Pc [.ref h, .int p1, .int p2, .int p3, .int p4, .int p5] (fun U => U.heap.size = sz ∧ va_P G.1 gCl [oc h 0 [.ref h_kinds, .ref h_now, .ref h_fault, .ref h_tape, .int taped, .int reads, .ref h_got, .ref h_failing, .ref h_past, .int undoMany, .ref h_aside, .ref h_best, .ref h_tried, .ref h_kept, .ref h_keptPast, .int keptMany, .int isKept, .ref h_sheets], arf G h_sheets 7 4 shf, oc h_sheets_x 8 [.null]] U.heap ∧ gK G U ∧ va_D (fun _ => True) [oc h 0 [.ref h_kinds, .ref h_now, .ref h_fault, .ref h_tape, .int taped, .int reads, .ref h_got, .ref h_failing, .ref h_past, .int undoMany, .ref h_aside, .ref h_best, .ref h_tried, .ref h_kept, .ref h_keptPast, .int keptMany, .int isKept, .ref h_sheets], arf G h_sheets 7 4 shf, oc h_sheets_x 8 [.null]] ∧ stS aS U)) ((fun A => (va_Qi (fun (r : Int32) (u : Unit) => Q r ) (fun u t => va_P G.1 gCl [oc h 0 [.ref h_kinds, .ref h_now, .ref h_fault, .ref h_tape, .int taped, .int reads, .ref h_got, .ref h_failing, .ref h_past, .int undoMany, .ref h_aside, .ref h_best, .ref h_tried, .ref h_kept, .ref h_keptPast, .int keptMany, .int isKept, .ref h_sheets], arf G h_sheets 7 4 shf, oc h_sheets_x 8 [.null]] t.heap ∧ va_D A [oc h 0 [.ref h_kinds, .ref h_now, .ref h_fault, .ref h_tape, .int taped, .int reads, .ref h_got, .ref h_failing, .ref h_past, .int undoMany, .ref h_aside, .ref h_best, .ref h_tried, .ref h_kept, .ref h_keptPast, .int keptMany, .int isKept, .ref h_sheets], arf G h_sheets 7 4 shf, oc h_sheets_x 8 [.null]]) A)) (va_A [oc h 0 [.ref h_kinds, .ref h_now, .ref h_fault, .ref h_tape, .int taped, .int reads, .ref h_got, .ref h_failing, .ref h_past, .int undoMany, .ref h_aside, .ref h_best, .ref h_tried, .ref h_kept, .ref h_keptPast, .int keptMany, .int isKept, .ref h_sheets], arf G h_sheets 7 4 shf, oc h_sheets_x 8 [.null]] sz)) 3 1010 (va_A [oc h 0 [.ref h_kinds, .ref h_now, .ref h_fault, .ref h_tape, .int taped, .int reads, .ref h_got, .ref h_failing, .ref h_past, .int undoMany, .ref h_aside, .ref h_best, .ref h_tried, .ref h_kept, .ref h_keptPast, .int keptMany, .int isKept, .ref h_sheets], arf G h_sheets 7 4 shf, oc h_sheets_x 8 [.null]] sz) := by
  refine va_MetW (hh := [(18, 44, 47, 354), (18, 44, 52, 360), (18, 44, 57, 362)]) (cc := cX0_copy) (maxL := 7) (ret := (some .int)) (by decide) rfl ?_
  intro p e s m args below meth c s₁ B hml hv
  obtain ⟨rfl, hsz, hP, hK, hD0, hst⟩ := hv
  have hx := B.exec
  have hb := B.bytes
  have hr := B.returns
  have hts := atoms_spec (ws := (wsW_ yX0_copy cX0_copy 7 (some .int) [(18, 44, 47, 354), (18, 44, 52, 360), (18, 44, 57, 362)])) B.pre
  have hts : ∀ w ∈ lw_all, w.before _ s = true := fun w h => hts w (List.mem_cons_of_mem _ h)
  have hown : s.vm.findClass RX0 = some m.cls := findClass_of_methodNamed B.named
  have hlocks := B.notSynchronized
  have hhd : c.exceptionTable.toList = [⟨18, 44, 47, 354⟩, ⟨18, 44, 52, 360⟩, ⟨18, 44, 57, 362⟩] := x_hand B (atoms_spec (ws := (wsW_ yX0_copy cX0_copy 7 (some .int) [(18, 44, 47, 354), (18, 44, 52, 360), (18, 44, 57, 362)])) B.pre _ List.mem_cons_self)
  subst hsz
  have hD := hD0.self (sz := s.heap.size)
  generalize hAe : va_A [oc h 0 [.ref h_kinds, .ref h_now, .ref h_fault, .ref h_tape, .int taped, .int reads, .ref h_got, .ref h_failing, .ref h_past, .int undoMany, .ref h_aside, .ref h_best, .ref h_tried, .ref h_kept, .ref h_keptPast, .int keptMany, .int isKept, .ref h_sheets], arf G h_sheets 7 4 shf, oc h_sheets_x 8 [.null]] s.heap.size = A at hD ⊢
  have hA : ∀ q : Nat, s.heap.size ≤ q → A q := fun q h => by rw [← hAe]; exact Or.inr h
  have hS : va_S A s.heap s.heap [] := va_S.rf
  have hX : XCx l aS s A := ⟨hfl, hst, fun q cell hq hc => va_A.ns hP (by rw [hAe]; exact hq) hc⟩
  have C : Cx p s m meth c cX0_copy 7 (some .int) RX0 ([.ref h, .int p1, .int p2, .int p3, .int p4, .int p5] : List Value).toArray G A := ⟨hx, hb, hr, hlocks, hml, hown, hts, hK, hA⟩
  have hl := lv_entry ([.ref h, .int p1, .int p2, .int p3, .int p4, .int p5]) (n := 7) (Nat.le_of_ble_eq_true rfl)
  rw [lg_entry_eq]
  generalize (lg_sl ([.ref h, .int p1, .int p2, .int p3, .int p4, .int p5]) ++ List.replicate (7 - (lg_sl ([.ref h, .int p1, .int p2, .int p3, .int p4, .int p5])).length) Slot.unset).toArray = ls at hl ⊢
  have hl : lv_has ls 7 [(0, .ref h), (1, .int p1), (2, .int p2), (3, .int p3), (4, .int p4), (5, .int p5)] := hl
  unfold wp_X0_copy_Ne at hw
  refine lv_iload_n hx hb dX0_copy_0 rfl (lv_at hl 1 rfl) ?_
  refine lv_iconst (v := (0 : Int32)) hx hb dX0_copy_1 (by decide) ?_
  have hPc := hP.sub (ws' := []) [] rfl
  have hDc := hD.sub (ws' := []) [] (by decide) rfl
  have hFc := va_free (wc := []) hD hS hA [] rfl
  refine va_calli (va_runS (As := [.int p1, .int (0 : Int32)]) (rest := []) ⟨hx, hb, hml, hown, hts⟩ (mt_X0_isSheet l G  s.heap.size  p1 (0 : Int32) _ hw) (va_cwS 2 hts (lw_S q648 q649 q54 q650) rfl rfl rfl (by decide +kernel) ⟨Nat.le_of_ble_eq_true rfl, Nat.le_of_ble_eq_true rfl⟩) ⟨fun a U g mk q => by obtain ⟨q0, q1, qP, qK, qD⟩ := q; exact ⟨q0, q1, qP, qK.call, qD⟩, fun U hU hW => ⟨rfl, by rw [hU], by rw [hU]; exact hPc, hK.warm hW, hDc.weaken (fun _ _ _ _ => trivial)⟩⟩ rfl rfl hl.1 rfl (lv_room (Nat.le_of_ble_eq_true rfl)) dX0_copy_2 ⟨Nat.le_of_ble_eq_true rfl, Nat.le_of_ble_eq_true rfl⟩) hS (fun q _ h => hFc q h) hFc (fun r_1 _ t H1 locs ht hvm hw hB hz1 hk1 hS => ?_)
  obtain ⟨hP1, hD1⟩ := hB
  rw [ht] at hP1
  obtain ⟨hP, hD⟩ := va_join (wr := [oc h 0 [.ref h_kinds, .ref h_now, .ref h_fault, .ref h_tape, .int taped, .int reads, .ref h_got, .ref h_failing, .ref h_past, .int undoMany, .ref h_aside, .ref h_best, .ref h_tried, .ref h_kept, .ref h_keptPast, .int keptMany, .int isKept, .ref h_sheets], arf G h_sheets 7 4 shf, oc h_sheets_x 8 [.null]]) (w1 := []) hP hD [] [0, 1, 2] rfl rfl (by decide) (by decide) hk1 hFc hP1 hD1
  clear hPc hDc hFc hP1 hD1 hz1 hk1 hvm
  generalize H1 = H at hP hS ⊢
  have hP : va_P G.1 gCl [oc h 0 [.ref h_kinds, .ref h_now, .ref h_fault, .ref h_tape, .int taped, .int reads, .ref h_got, .ref h_failing, .ref h_past, .int undoMany, .ref h_aside, .ref h_best, .ref h_tried, .ref h_kept, .ref h_keptPast, .int keptMany, .int isKept, .ref h_sheets], arf G h_sheets 7 4 shf, oc h_sheets_x 8 [.null]] H := hP
  have hD : va_D A [oc h 0 [.ref h_kinds, .ref h_now, .ref h_fault, .ref h_tape, .int taped, .int reads, .ref h_got, .ref h_failing, .ref h_past, .int undoMany, .ref h_aside, .ref h_best, .ref h_tried, .ref h_kept, .ref h_keptPast, .int keptMany, .int isKept, .ref h_sheets], arf G h_sheets 7 4 shf, oc h_sheets_x 8 [.null]] := hD
  refine lv_if_eq (tgt := 16) hx hb dX0_copy_5 (by decide) (fun c_2 => ?_) (fun c_2 => ?_)
  · replace hw := hw.1 c_2
    refine lv_iconst (v := (-1 : Int32)) hx hb dX0_copy_16 (by decide) ?_
    have hP9 := hP
    have hD9 := hD
    exact w_widen (k := 3) (n := 1010) (by first | exact Nat.le_of_ble_eq_true rfl | omega) (by first | exact Nat.le_of_ble_eq_true rfl | omega) (W.iret (v := (-1 : Int32)) hx hb hr (fun t ht hW => ⟨⟨(-1 : Int32), (), rfl, hw, by rw [ht]; exact hP9, hD9⟩, hS.F ht⟩) hS.2.2 dX0_copy_17)
  · replace hw := hw.2 c_2
    refine lv_iload_n hx hb dX0_copy_8 rfl (lv_at hl 3 rfl) ?_
    refine lv_iconst (v := (0 : Int32)) hx hb dX0_copy_9 (by decide) ?_
    have hPc := hP.sub (ws' := []) [] rfl
    have hDc := hD.sub (ws' := []) [] (by decide) rfl
    have hFc := va_free (wc := []) hD hS hA [] rfl
    refine va_calli (va_runS (As := [.int p3, .int (0 : Int32)]) (rest := []) ⟨hx, hb, hml, hown, hts⟩ (mt_X0_isSheet l G  H.size  p3 (0 : Int32) _ hw) (va_cwS 2 hts (lw_S q648 q649 q54 q650) rfl rfl rfl (by decide +kernel) ⟨Nat.le_of_ble_eq_true rfl, Nat.le_of_ble_eq_true rfl⟩) ⟨fun a U g mk q => by obtain ⟨q0, q1, qP, qK, qD⟩ := q; exact ⟨q0, q1, qP, qK.call, qD⟩, fun U hU hW => ⟨rfl, by rw [hU], by rw [hU]; exact hPc, hK.warm hW, hDc.weaken (fun _ _ _ _ => trivial)⟩⟩ rfl rfl hl.1 rfl (lv_room (Nat.le_of_ble_eq_true rfl)) dX0_copy_10 ⟨Nat.le_of_ble_eq_true rfl, Nat.le_of_ble_eq_true rfl⟩) hS (fun q _ h => hFc q h) hFc (fun r_3 _ t H1 locs ht hvm hw hB hz1 hk1 hS => ?_)
    obtain ⟨hP1, hD1⟩ := hB
    rw [ht] at hP1
    obtain ⟨hP, hD⟩ := va_join (wr := [oc h 0 [.ref h_kinds, .ref h_now, .ref h_fault, .ref h_tape, .int taped, .int reads, .ref h_got, .ref h_failing, .ref h_past, .int undoMany, .ref h_aside, .ref h_best, .ref h_tried, .ref h_kept, .ref h_keptPast, .int keptMany, .int isKept, .ref h_sheets], arf G h_sheets 7 4 shf, oc h_sheets_x 8 [.null]]) (w1 := []) hP hD [] [0, 1, 2] rfl rfl (by decide) (by decide) hk1 hFc hP1 hD1
    clear hPc hDc hFc hP1 hD1 hz1 hk1 hvm
    generalize H1 = H at hP hS ⊢
    have hP : va_P G.1 gCl [oc h 0 [.ref h_kinds, .ref h_now, .ref h_fault, .ref h_tape, .int taped, .int reads, .ref h_got, .ref h_failing, .ref h_past, .int undoMany, .ref h_aside, .ref h_best, .ref h_tried, .ref h_kept, .ref h_keptPast, .int keptMany, .int isKept, .ref h_sheets], arf G h_sheets 7 4 shf, oc h_sheets_x 8 [.null]] H := hP
    have hD : va_D A [oc h 0 [.ref h_kinds, .ref h_now, .ref h_fault, .ref h_tape, .int taped, .int reads, .ref h_got, .ref h_failing, .ref h_past, .int undoMany, .ref h_aside, .ref h_best, .ref h_tried, .ref h_kept, .ref h_keptPast, .int keptMany, .int isKept, .ref h_sheets], arf G h_sheets 7 4 shf, oc h_sheets_x 8 [.null]] := hD
    refine lv_if_ne (tgt := 18) hx hb dX0_copy_13 (by decide) (fun c_4 => ?_) (fun c_4 => ?_)
    · replace hw := hw.1 c_4
      refine lv_aload_n hx hb dX0_copy_18 rfl (lv_at hl 0 rfl) ?_
      refine va_get (D := G.1) (ci := 0) (v := .ref h_sheets) (C := RX0) (T := TX0) (N := 18) hx hb hts in_X0 hown hK.1 hP 0 rfl rfl 17 (by decide) (hts _ q273) (fun _ h9 => h9) rfl dX0_copy_19 ?_
      refine lv_iload_n hx hb dX0_copy_22 rfl (lv_at hl 1 rfl) ?_
      obtain ⟨i_5, hw⟩ := hw
      refine z_aaldS hx hb hK.1 hP 1 7 rfl rfl i_5 dX0_copy_23 hsh ?_
      refine va_getN (D := G.1) (ci := 8) (v := .null) (C := RX8) (T := TX8) (N := 1) hx hb hts in_X8 hown hK.1 hP 2 rfl rfl 0 (by decide) (hK.n q251 rfl) (fun _ h9 => h9) rfl dX0_copy_24 ?_
      refine lv_iload_n hx hb dX0_copy_27 rfl (lv_at hl 2 rfl) ?_
      refine lv_aload_n hx hb dX0_copy_28 rfl (lv_at hl 0 rfl) ?_
      refine va_get (D := G.1) (ci := 0) (v := .ref h_sheets) (C := RX0) (T := TX0) (N := 18) hx hb hts in_X0 hown hK.1 hP 0 rfl rfl 17 (by decide) (hts _ q273) (fun _ h9 => h9) rfl dX0_copy_29 ?_
      refine lv_iload_n hx hb dX0_copy_32 rfl (lv_at hl 3 rfl) ?_
      obtain ⟨i_6, hw⟩ := hw
      refine z_aaldS hx hb hK.1 hP 1 7 rfl rfl i_6 dX0_copy_33 hsh2 ?_
      refine va_getN (D := G.1) (ci := 8) (v := .null) (C := RX8) (T := TX8) (N := 1) hx hb hts in_X8 hown hK.1 hP 2 rfl rfl 0 (by decide) (hK.n q251 rfl) (fun _ h9 => h9) rfl dX0_copy_34 ?_
      refine lv_iload hx hb dX0_copy_37 (lv_at hl 4 rfl) ?_
      refine lv_iload hx hb dX0_copy_39 (lv_at hl 5 rfl) ?_
      refine w_cpNull (a := none) (b := none) (rest := []) ⟨hx, hb, hml.trans hl.1.symm, hts, hK, hX, hS, hP, hown, hts _ q512, hts _ q440, hts _ q439, hts _ q68, dX0_copy_41, Nat.le_of_ble_eq_true rfl, Nat.le_of_ble_eq_true rfl, Nat.le_of_ble_eq_true rfl, Nat.le_of_ble_eq_true rfl, Nat.le_of_ble_eq_true rfl⟩ (Or.inl rfl) (fun x_7 H hxo hP hS hz hk => ?_)
      obtain ⟨ce, hce, hcv, hcc⟩ := hxo
      refine wx_catch (cell := ce) hce (by rw [hcv]; rfl) [] ⟨18, 44, 47, 354⟩ [⟨18, 44, 52, 360⟩, ⟨18, 44, 57, 362⟩] hhd (fun _ _ z hz => by cases hz) (by decide) (by decide) hown (hts _ q734) (cT := ce.cls) hcc (vm_refl (args := #[]) (hK.n q756 rfl) hcc) ?_
      refine lv_astore (lv' := [(6, .ref x_7), (0, .ref h), (1, .int p1), (2, .int p2), (3, .int p3), (4, .int p4), (5, .int p5)]) hx hb dX0_copy_47 hl (by decide) rfl (fun ls hl => ?_)
      refine lv_bipush (v := (-11 : Int32)) hx hb dX0_copy_49 (by decide) ?_
      have hP9 := hP
      have hD9 := hD
      exact w_widen (k := 3) (n := 1010) (by first | exact Nat.le_of_ble_eq_true rfl | omega) (by first | exact Nat.le_of_ble_eq_true rfl | omega) (W.iret (v := (-11 : Int32)) hx hb hr (fun t ht hW => ⟨⟨(-11 : Int32), (), rfl, hw, by rw [ht]; exact hP9, hD9⟩, hS.F ht⟩) hS.2.2 dX0_copy_51)
    · replace hw := hw.2 c_4
      refine lv_iconst (v := (-1 : Int32)) hx hb dX0_copy_16 (by decide) ?_
      have hP9 := hP
      have hD9 := hD
      exact w_widen (k := 3) (n := 1010) (by first | exact Nat.le_of_ble_eq_true rfl | omega) (by first | exact Nat.le_of_ble_eq_true rfl | omega) (W.iret (v := (-1 : Int32)) hx hb hr (fun t ht hW => ⟨⟨(-1 : Int32), (), rfl, hw, by rw [ht]; exact hP9, hD9⟩, hS.F ht⟩) hS.2.2 dX0_copy_17)
