set_option maxRecDepth 100000
/-! BattleBench.Sheet.lay(IIJ)V -/
def wp_X8_lay_B_x (rn : Nat) (rw : Nat → Int32) (p1 : Int32) (p2 : Int32) (p3 : Int64) (Q : ((Nat → Int32)) → Prop) (QX : Nat → Prop) : Prop :=
  ((p1 = (0 : Int32) → (∀ v_2 : Int32, v_2 = (Int8.toInt32 (Int32.toInt8 (Int64.toInt32 p3))) → ((vp_in p2 rn → ∀ f_5 : Nat → Int32, f_5 = upd rw p2.toNatClampNeg (vp_nar .byte v_2) → Q f_5) ∧ (¬ vp_in p2 rn → (rn < 2147483648 ∧ QX 2))))) ∧ (p1 = (1 : Int32) → QX 1) ∧ (p1 = (2 : Int32) → QX 1) ∧ (¬ p1 = (0 : Int32) ∧ ¬ p1 = (1 : Int32) ∧ ¬ p1 = (2 : Int32) → QX 1))
set_option maxHeartbeats 4000000 in
theorem mt_X8_lay_B_x (l : Launch) (G : GT) (aS : Nat) (hfl : l.flags = pinnedFlags ++ [noTraceFlag]) (h h_r : Nat) (sz : Nat) (rn : Nat) (rw : Nat → Int32) (p1 : Int32) (p2 : Int32) (p3 : Int64) (Q : ((Nat → Int32)) → Prop) (QX : Nat → Prop) (hw : wp_X8_lay_B_x rn rw p1 p2 p3 Q QX) : MetT l yX8_lay (ws_ yX8_lay cX8_lay 5 none) ({ frames := 8, cells := 3, slots := 1010, locals := 10248 } : Room) (va_Pc [.ref h, .int p1, .int p2, .long p3] (fun U => U.heap.size = sz ∧ va_P G.1 gCl [oc h 8 [.ref h_r], ay G h_r rn rw] U.heap ∧ gK G U ∧ va_D (fun _ => True) [oc h 8 [.ref h_r], ay G h_r rn rw] ∧ stS aS U)) ((fun A => (va_QEv (fun (u : (Nat → Int32)) => Q u) QX (fun u t => va_P G.1 gCl [oc h 8 [.ref h_r], ay G h_r rn u] t.heap ∧ va_D A [oc h 8 [.ref h_r], ay G h_r rn u]) (fun t => va_P G.1 gCl [oc h 8 [.ref h_r], ay G h_r rn rw] t.heap ∧ va_D A [oc h 8 [.ref h_r], ay G h_r rn rw]) A)) (va_A [oc h 8 [.ref h_r], ay G h_r rn rw] sz)) 3 1010 (va_A [oc h 8 [.ref h_r], ay G h_r rn rw] sz) := by
  refine MetT.ofW (cc := cX8_lay) (maxL := 5) (ret := none) (by decide) rfl ?_
  intro p e s m args below meth c s₁ B hml hno hv
  obtain ⟨rfl, hsz, hP, hK, hD0, hst⟩ := hv
  have hx := B.exec
  have hb := B.bytes
  have hr := B.returns
  have hts := atoms_spec (ws := (ws_ yX8_lay cX8_lay 5 none)) B.pre
  have hts : ∀ w ∈ lw_all, w.before _ s = true := fun w h => hts w (List.mem_cons_of_mem _ h)
  have hown : s.vm.findClass RX8 = some m.cls := findClass_of_methodNamed B.named
  have hlocks := B.notSynchronized
  subst hsz
  have hD := hD0.self (sz := s.heap.size)
  generalize hAe : va_A [oc h 8 [.ref h_r], ay G h_r rn rw] s.heap.size = A at hD ⊢
  have hA : ∀ q : Nat, s.heap.size ≤ q → A q := fun q h => by rw [← hAe]; exact Or.inr h
  have hS : va_S A s.heap s.heap [] := va_S.rf
  have hX : XCx l aS s A := ⟨hfl, hst, fun q cell hq hc => va_A.ns hP (by rw [hAe]; exact hq) hc⟩
  have C : Cx p s m meth c cX8_lay 5 none RX8 ([.ref h, .int p1, .int p2, .long p3] : List Value).toArray G A := ⟨hx, hb, hr, hlocks, hml, hown, hts, hK, hA⟩
  have hl := lv_entry ([.ref h, .int p1, .int p2, .long p3]) (n := 5) (Nat.le_of_ble_eq_true rfl)
  rw [lg_entry_eq]
  generalize (lg_sl ([.ref h, .int p1, .int p2, .long p3]) ++ List.replicate (5 - (lg_sl ([.ref h, .int p1, .int p2, .long p3])).length) Slot.unset).toArray = ls at hl ⊢
  have hl : lv_has ls 5 [(0, .ref h), (1, .int p1), (2, .int p2), (3, .long p3)] := hl
  unfold wp_X8_lay_B_x at hw
  refine lv_iload_n hx hb dX8_lay_0 rfl (lv_at hl 1 rfl) ?_
  by_cases c_1 : p1 = (0 : Int32)
  · replace hw := hw.1 c_1
    refine z_tabIn (k := (0 : Int32)) (off := 27) (tgt := 28) hx hb dX8_lay_1 c_1 (by decide) rfl (by decide) ?_
    refine lv_aload_n hx hb dX8_lay_28 rfl (lv_at hl 0 rfl) ?_
    refine va_get (D := G.1) (ci := 8) (v := .ref h_r) (C := RX8) (T := TX8) (N := 1) hx hb hts in_X8 hown hK.1 hP 0 rfl rfl 0 (by decide) (hts _ q250) (fun _ h9 => h9) rfl dX8_lay_29 ?_
    refine va_castA hx hb hown (hts _ q661) hP 1 rfl ((hK.1.2 3 _ rfl).2.nm rfl rfl) dX8_lay_32 ?_
    refine lv_iload_n hx hb dX8_lay_35 rfl (lv_at hl 2 rfl) ?_
    refine lv_lload_n hx hb dX8_lay_36 rfl (lv_at hl 3 rfl) ?_
    refine lv_l2i hx hb dX8_lay_37 rfl ?_
    refine lv_i2b hx hb dX8_lay_38 rfl ?_
    refine lv_topi (fun v_2 ev_2 => ?_)
    replace hw := hw v_2 ev_2
    by_cases c_4 : vp_in p2 rn
    · replace hw := hw.1 c_4
      refine z_bast hx hb hK.1 hP hD hS 1 3 rfl rfl c_4 dX8_lay_39 (k := p2.toNatClampNeg) rfl (fun f_5 ef_5 H locs hP hD hS => ?_)
      replace hw := hw f_5 ef_5
      have hP : va_P G.1 gCl [oc h 8 [.ref h_r], ay G h_r rn f_5] H := hP
      have hD : va_D A [oc h 8 [.ref h_r], ay G h_r rn f_5] := hD
      refine lv_goto (tgt := 82) hx hb dX8_lay_40 (by decide) ?_
      have hP9 := hP
      have hD9 := hD
      exact w_toT (w_widen (k := 3) (n := 1010) (by first | exact Nat.le_of_ble_eq_true rfl | omega) (by first | exact Nat.le_of_ble_eq_true rfl | omega) (W.vret hx hb hr (fun t ht hW => ⟨Or.inl ⟨f_5, rfl, hw, by rw [ht]; exact hP9, hD9⟩, hS.F ht⟩) hS.2.2 dX8_lay_82))
    · replace hw := hw.2 c_4
      obtain ⟨hn31, hw⟩ := hw
      refine w_outB hx hb (hml.trans hl.1.symm) hts hK hX hS hP 1 rfl c_4 hn31 dX8_lay_39 (Nat.le_of_ble_eq_true rfl) (Nat.le_of_ble_eq_true rfl) (Nat.le_of_ble_eq_true rfl) (Nat.le_of_ble_eq_true rfl) (Nat.le_of_ble_eq_true rfl) (fun x_3 H hxo hP hS hz hk => ?_)
      have hP9 := hP
      have hD9 := hD
      exact wx_leaveE hno hlocks hxo hw (fun t ht => ⟨by rw [ht]; exact hP9, hD9⟩) hS
  by_cases c_6 : p1 = (1 : Int32)
  · replace hw := hw.2.1 c_6
    refine z_tabIn (k := (1 : Int32)) (off := 42) (tgt := 43) hx hb dX8_lay_1 c_6 (by decide) rfl (by decide) ?_
    refine lv_aload_n hx hb dX8_lay_43 rfl (lv_at hl 0 rfl) ?_
    refine va_get (D := G.1) (ci := 8) (v := .ref h_r) (C := RX8) (T := TX8) (N := 1) hx hb hts in_X8 hown hK.1 hP 0 rfl rfl 0 (by decide) (hts _ q250) (fun _ h9 => h9) rfl dX8_lay_44 ?_
    refine w_castNo (C := "[B") (nm := "[S") hx hb (hml.trans hl.1.symm) hts hK hX hS hP hown (hts _ q662) 1 rfl ((hK.1.2 3 _ rfl).2.nm rfl rfl) (hK.2.2 ("[B", "[S") (by decide +kernel)) (x_arr hK.1 3 rfl) (x_arrN hK.1 4 rfl ((hK.1.2 4 _ rfl).2.nm rfl rfl)) (by decide +kernel) (by decide +kernel) dX8_lay_47 (Nat.le_of_ble_eq_true rfl) (Nat.le_of_ble_eq_true rfl) (Nat.le_of_ble_eq_true rfl) (Nat.le_of_ble_eq_true rfl) (Nat.le_of_ble_eq_true rfl) (fun x_7 H hxo hP hS hz hk => ?_)
    have hP9 := hP
    have hD9 := hD
    exact wx_leaveE hno hlocks hxo hw (fun t ht => ⟨by rw [ht]; exact hP9, hD9⟩) hS
  by_cases c_8 : p1 = (2 : Int32)
  · replace hw := hw.2.2.1 c_8
    refine z_tabIn (k := (2 : Int32)) (off := 57) (tgt := 58) hx hb dX8_lay_1 c_8 (by decide) rfl (by decide) ?_
    refine lv_aload_n hx hb dX8_lay_58 rfl (lv_at hl 0 rfl) ?_
    refine va_get (D := G.1) (ci := 8) (v := .ref h_r) (C := RX8) (T := TX8) (N := 1) hx hb hts in_X8 hown hK.1 hP 0 rfl rfl 0 (by decide) (hts _ q250) (fun _ h9 => h9) rfl dX8_lay_59 ?_
    refine w_castNo (C := "[B") (nm := "[I") hx hb (hml.trans hl.1.symm) hts hK hX hS hP hown (hts _ q663) 1 rfl ((hK.1.2 3 _ rfl).2.nm rfl rfl) (hK.2.2 ("[B", "[I") (by decide +kernel)) (x_arr hK.1 3 rfl) (x_arrN hK.1 0 rfl ((hK.1.2 0 _ rfl).2.nm rfl rfl)) (by decide +kernel) (by decide +kernel) dX8_lay_62 (Nat.le_of_ble_eq_true rfl) (Nat.le_of_ble_eq_true rfl) (Nat.le_of_ble_eq_true rfl) (Nat.le_of_ble_eq_true rfl) (Nat.le_of_ble_eq_true rfl) (fun x_9 H hxo hP hS hz hk => ?_)
    have hP9 := hP
    have hD9 := hD
    exact wx_leaveE hno hlocks hxo hw (fun t ht => ⟨by rw [ht]; exact hP9, hD9⟩) hS
  replace hw := hw.2.2.2 ⟨c_1, c_6, c_8⟩
  refine lv_tableOut (tgt := 72) hx hb dX8_lay_1 (z_tabOut (0) 3 [(0 : Int32), (1 : Int32), (2 : Int32)] (by decide +kernel) (List.forall_mem_cons.mpr ⟨c_1, (List.forall_mem_cons.mpr ⟨c_6, (List.forall_mem_cons.mpr ⟨c_8, fun _ h9 => absurd h9 List.not_mem_nil⟩)⟩)⟩)) (by decide) ?_
  refine lv_aload_n hx hb dX8_lay_72 rfl (lv_at hl 0 rfl) ?_
  refine va_get (D := G.1) (ci := 8) (v := .ref h_r) (C := RX8) (T := TX8) (N := 1) hx hb hts in_X8 hown hK.1 hP 0 rfl rfl 0 (by decide) (hts _ q250) (fun _ h9 => h9) rfl dX8_lay_73 ?_
  refine w_castNo (C := "[B") (nm := "[J") hx hb (hml.trans hl.1.symm) hts hK hX hS hP hown (hts _ q668) 1 rfl ((hK.1.2 3 _ rfl).2.nm rfl rfl) (hK.2.2 ("[B", "[J") (by decide +kernel)) (x_arr hK.1 3 rfl) (x_arrN hK.1 1 rfl ((hK.1.2 1 _ rfl).2.nm rfl rfl)) (by decide +kernel) (by decide +kernel) dX8_lay_76 (Nat.le_of_ble_eq_true rfl) (Nat.le_of_ble_eq_true rfl) (Nat.le_of_ble_eq_true rfl) (Nat.le_of_ble_eq_true rfl) (Nat.le_of_ble_eq_true rfl) (fun x_10 H hxo hP hS hz hk => ?_)
  have hP9 := hP
  have hD9 := hD
  exact wx_leaveE hno hlocks hxo hw (fun t ht => ⟨by rw [ht]; exact hP9, hD9⟩) hS
/-! BattleBench.Sheet.lay(IIJ)V -/
def wp_X8_lay_S_x (rn : Nat) (rw : Nat → Int32) (p1 : Int32) (p2 : Int32) (p3 : Int64) (Q : ((Nat → Int32)) → Prop) (QX : Nat → Prop) : Prop :=
  ((p1 = (0 : Int32) → QX 1) ∧ (p1 = (1 : Int32) → (∀ v_4 : Int32, v_4 = (Int16.toInt32 (Int32.toInt16 (Int64.toInt32 p3))) → ((vp_in p2 rn → ∀ f_7 : Nat → Int32, f_7 = upd rw p2.toNatClampNeg (vp_nar .short v_4) → Q f_7) ∧ (¬ vp_in p2 rn → (rn < 2147483648 ∧ QX 2))))) ∧ (p1 = (2 : Int32) → QX 1) ∧ (¬ p1 = (0 : Int32) ∧ ¬ p1 = (1 : Int32) ∧ ¬ p1 = (2 : Int32) → QX 1))
set_option maxHeartbeats 4000000 in
theorem mt_X8_lay_S_x (l : Launch) (G : GT) (aS : Nat) (hfl : l.flags = pinnedFlags ++ [noTraceFlag]) (h h_r : Nat) (sz : Nat) (rn : Nat) (rw : Nat → Int32) (p1 : Int32) (p2 : Int32) (p3 : Int64) (Q : ((Nat → Int32)) → Prop) (QX : Nat → Prop) (hw : wp_X8_lay_S_x rn rw p1 p2 p3 Q QX) : MetT l yX8_lay (ws_ yX8_lay cX8_lay 5 none) ({ frames := 8, cells := 3, slots := 1010, locals := 10248 } : Room) (va_Pc [.ref h, .int p1, .int p2, .long p3] (fun U => U.heap.size = sz ∧ va_P G.1 gCl [oc h 8 [.ref h_r], ah G h_r rn rw] U.heap ∧ gK G U ∧ va_D (fun _ => True) [oc h 8 [.ref h_r], ah G h_r rn rw] ∧ stS aS U)) ((fun A => (va_QEv (fun (u : (Nat → Int32)) => Q u) QX (fun u t => va_P G.1 gCl [oc h 8 [.ref h_r], ah G h_r rn u] t.heap ∧ va_D A [oc h 8 [.ref h_r], ah G h_r rn u]) (fun t => va_P G.1 gCl [oc h 8 [.ref h_r], ah G h_r rn rw] t.heap ∧ va_D A [oc h 8 [.ref h_r], ah G h_r rn rw]) A)) (va_A [oc h 8 [.ref h_r], ah G h_r rn rw] sz)) 3 1010 (va_A [oc h 8 [.ref h_r], ah G h_r rn rw] sz) := by
  refine MetT.ofW (cc := cX8_lay) (maxL := 5) (ret := none) (by decide) rfl ?_
  intro p e s m args below meth c s₁ B hml hno hv
  obtain ⟨rfl, hsz, hP, hK, hD0, hst⟩ := hv
  have hx := B.exec
  have hb := B.bytes
  have hr := B.returns
  have hts := atoms_spec (ws := (ws_ yX8_lay cX8_lay 5 none)) B.pre
  have hts : ∀ w ∈ lw_all, w.before _ s = true := fun w h => hts w (List.mem_cons_of_mem _ h)
  have hown : s.vm.findClass RX8 = some m.cls := findClass_of_methodNamed B.named
  have hlocks := B.notSynchronized
  subst hsz
  have hD := hD0.self (sz := s.heap.size)
  generalize hAe : va_A [oc h 8 [.ref h_r], ah G h_r rn rw] s.heap.size = A at hD ⊢
  have hA : ∀ q : Nat, s.heap.size ≤ q → A q := fun q h => by rw [← hAe]; exact Or.inr h
  have hS : va_S A s.heap s.heap [] := va_S.rf
  have hX : XCx l aS s A := ⟨hfl, hst, fun q cell hq hc => va_A.ns hP (by rw [hAe]; exact hq) hc⟩
  have C : Cx p s m meth c cX8_lay 5 none RX8 ([.ref h, .int p1, .int p2, .long p3] : List Value).toArray G A := ⟨hx, hb, hr, hlocks, hml, hown, hts, hK, hA⟩
  have hl := lv_entry ([.ref h, .int p1, .int p2, .long p3]) (n := 5) (Nat.le_of_ble_eq_true rfl)
  rw [lg_entry_eq]
  generalize (lg_sl ([.ref h, .int p1, .int p2, .long p3]) ++ List.replicate (5 - (lg_sl ([.ref h, .int p1, .int p2, .long p3])).length) Slot.unset).toArray = ls at hl ⊢
  have hl : lv_has ls 5 [(0, .ref h), (1, .int p1), (2, .int p2), (3, .long p3)] := hl
  unfold wp_X8_lay_S_x at hw
  refine lv_iload_n hx hb dX8_lay_0 rfl (lv_at hl 1 rfl) ?_
  by_cases c_1 : p1 = (0 : Int32)
  · replace hw := hw.1 c_1
    refine z_tabIn (k := (0 : Int32)) (off := 27) (tgt := 28) hx hb dX8_lay_1 c_1 (by decide) rfl (by decide) ?_
    refine lv_aload_n hx hb dX8_lay_28 rfl (lv_at hl 0 rfl) ?_
    refine va_get (D := G.1) (ci := 8) (v := .ref h_r) (C := RX8) (T := TX8) (N := 1) hx hb hts in_X8 hown hK.1 hP 0 rfl rfl 0 (by decide) (hts _ q250) (fun _ h9 => h9) rfl dX8_lay_29 ?_
    refine w_castNo (C := "[S") (nm := "[B") hx hb (hml.trans hl.1.symm) hts hK hX hS hP hown (hts _ q661) 1 rfl ((hK.1.2 4 _ rfl).2.nm rfl rfl) (hK.2.2 ("[S", "[B") (by decide +kernel)) (x_arr hK.1 4 rfl) (x_arrN hK.1 3 rfl ((hK.1.2 3 _ rfl).2.nm rfl rfl)) (by decide +kernel) (by decide +kernel) dX8_lay_32 (Nat.le_of_ble_eq_true rfl) (Nat.le_of_ble_eq_true rfl) (Nat.le_of_ble_eq_true rfl) (Nat.le_of_ble_eq_true rfl) (Nat.le_of_ble_eq_true rfl) (fun x_2 H hxo hP hS hz hk => ?_)
    have hP9 := hP
    have hD9 := hD
    exact wx_leaveE hno hlocks hxo hw (fun t ht => ⟨by rw [ht]; exact hP9, hD9⟩) hS
  by_cases c_3 : p1 = (1 : Int32)
  · replace hw := hw.2.1 c_3
    refine z_tabIn (k := (1 : Int32)) (off := 42) (tgt := 43) hx hb dX8_lay_1 c_3 (by decide) rfl (by decide) ?_
    refine lv_aload_n hx hb dX8_lay_43 rfl (lv_at hl 0 rfl) ?_
    refine va_get (D := G.1) (ci := 8) (v := .ref h_r) (C := RX8) (T := TX8) (N := 1) hx hb hts in_X8 hown hK.1 hP 0 rfl rfl 0 (by decide) (hts _ q250) (fun _ h9 => h9) rfl dX8_lay_44 ?_
    refine va_castA hx hb hown (hts _ q662) hP 1 rfl ((hK.1.2 4 _ rfl).2.nm rfl rfl) dX8_lay_47 ?_
    refine lv_iload_n hx hb dX8_lay_50 rfl (lv_at hl 2 rfl) ?_
    refine lv_lload_n hx hb dX8_lay_51 rfl (lv_at hl 3 rfl) ?_
    refine lv_l2i hx hb dX8_lay_52 rfl ?_
    refine lv_i2s hx hb dX8_lay_53 rfl ?_
    refine lv_topi (fun v_4 ev_4 => ?_)
    replace hw := hw v_4 ev_4
    by_cases c_6 : vp_in p2 rn
    · replace hw := hw.1 c_6
      refine z_sast hx hb hK.1 hP hD hS 1 4 rfl rfl c_6 dX8_lay_54 (k := p2.toNatClampNeg) rfl (fun f_7 ef_7 H locs hP hD hS => ?_)
      replace hw := hw f_7 ef_7
      have hP : va_P G.1 gCl [oc h 8 [.ref h_r], ah G h_r rn f_7] H := hP
      have hD : va_D A [oc h 8 [.ref h_r], ah G h_r rn f_7] := hD
      refine lv_goto (tgt := 82) hx hb dX8_lay_55 (by decide) ?_
      have hP9 := hP
      have hD9 := hD
      exact w_toT (w_widen (k := 3) (n := 1010) (by first | exact Nat.le_of_ble_eq_true rfl | omega) (by first | exact Nat.le_of_ble_eq_true rfl | omega) (W.vret hx hb hr (fun t ht hW => ⟨Or.inl ⟨f_7, rfl, hw, by rw [ht]; exact hP9, hD9⟩, hS.F ht⟩) hS.2.2 dX8_lay_82))
    · replace hw := hw.2 c_6
      obtain ⟨hn31, hw⟩ := hw
      refine w_outS hx hb (hml.trans hl.1.symm) hts hK hX hS hP 1 rfl c_6 hn31 dX8_lay_54 (Nat.le_of_ble_eq_true rfl) (Nat.le_of_ble_eq_true rfl) (Nat.le_of_ble_eq_true rfl) (Nat.le_of_ble_eq_true rfl) (Nat.le_of_ble_eq_true rfl) (fun x_5 H hxo hP hS hz hk => ?_)
      have hP9 := hP
      have hD9 := hD
      exact wx_leaveE hno hlocks hxo hw (fun t ht => ⟨by rw [ht]; exact hP9, hD9⟩) hS
  by_cases c_8 : p1 = (2 : Int32)
  · replace hw := hw.2.2.1 c_8
    refine z_tabIn (k := (2 : Int32)) (off := 57) (tgt := 58) hx hb dX8_lay_1 c_8 (by decide) rfl (by decide) ?_
    refine lv_aload_n hx hb dX8_lay_58 rfl (lv_at hl 0 rfl) ?_
    refine va_get (D := G.1) (ci := 8) (v := .ref h_r) (C := RX8) (T := TX8) (N := 1) hx hb hts in_X8 hown hK.1 hP 0 rfl rfl 0 (by decide) (hts _ q250) (fun _ h9 => h9) rfl dX8_lay_59 ?_
    refine w_castNo (C := "[S") (nm := "[I") hx hb (hml.trans hl.1.symm) hts hK hX hS hP hown (hts _ q663) 1 rfl ((hK.1.2 4 _ rfl).2.nm rfl rfl) (hK.2.2 ("[S", "[I") (by decide +kernel)) (x_arr hK.1 4 rfl) (x_arrN hK.1 0 rfl ((hK.1.2 0 _ rfl).2.nm rfl rfl)) (by decide +kernel) (by decide +kernel) dX8_lay_62 (Nat.le_of_ble_eq_true rfl) (Nat.le_of_ble_eq_true rfl) (Nat.le_of_ble_eq_true rfl) (Nat.le_of_ble_eq_true rfl) (Nat.le_of_ble_eq_true rfl) (fun x_9 H hxo hP hS hz hk => ?_)
    have hP9 := hP
    have hD9 := hD
    exact wx_leaveE hno hlocks hxo hw (fun t ht => ⟨by rw [ht]; exact hP9, hD9⟩) hS
  replace hw := hw.2.2.2 ⟨c_1, c_3, c_8⟩
  refine lv_tableOut (tgt := 72) hx hb dX8_lay_1 (z_tabOut (0) 3 [(0 : Int32), (1 : Int32), (2 : Int32)] (by decide +kernel) (List.forall_mem_cons.mpr ⟨c_1, (List.forall_mem_cons.mpr ⟨c_3, (List.forall_mem_cons.mpr ⟨c_8, fun _ h9 => absurd h9 List.not_mem_nil⟩)⟩)⟩)) (by decide) ?_
  refine lv_aload_n hx hb dX8_lay_72 rfl (lv_at hl 0 rfl) ?_
  refine va_get (D := G.1) (ci := 8) (v := .ref h_r) (C := RX8) (T := TX8) (N := 1) hx hb hts in_X8 hown hK.1 hP 0 rfl rfl 0 (by decide) (hts _ q250) (fun _ h9 => h9) rfl dX8_lay_73 ?_
  refine w_castNo (C := "[S") (nm := "[J") hx hb (hml.trans hl.1.symm) hts hK hX hS hP hown (hts _ q668) 1 rfl ((hK.1.2 4 _ rfl).2.nm rfl rfl) (hK.2.2 ("[S", "[J") (by decide +kernel)) (x_arr hK.1 4 rfl) (x_arrN hK.1 1 rfl ((hK.1.2 1 _ rfl).2.nm rfl rfl)) (by decide +kernel) (by decide +kernel) dX8_lay_76 (Nat.le_of_ble_eq_true rfl) (Nat.le_of_ble_eq_true rfl) (Nat.le_of_ble_eq_true rfl) (Nat.le_of_ble_eq_true rfl) (Nat.le_of_ble_eq_true rfl) (fun x_10 H hxo hP hS hz hk => ?_)
  have hP9 := hP
  have hD9 := hD
  exact wx_leaveE hno hlocks hxo hw (fun t ht => ⟨by rw [ht]; exact hP9, hD9⟩) hS
/-! BattleBench.Sheet.lay(IIJ)V -/
def wp_X8_lay_I_x (rn : Nat) (rw : Nat → Int32) (p1 : Int32) (p2 : Int32) (p3 : Int64) (Q : ((Nat → Int32)) → Prop) (QX : Nat → Prop) : Prop :=
  ((p1 = (0 : Int32) → QX 1) ∧ (p1 = (1 : Int32) → QX 1) ∧ (p1 = (2 : Int32) → (∀ v_6 : Int32, v_6 = (Int64.toInt32 p3) → ((vp_in p2 rn → ∀ f_9 : Nat → Int32, f_9 = upd rw p2.toNatClampNeg v_6 → Q f_9) ∧ (¬ vp_in p2 rn → (rn < 2147483648 ∧ QX 2))))) ∧ (¬ p1 = (0 : Int32) ∧ ¬ p1 = (1 : Int32) ∧ ¬ p1 = (2 : Int32) → QX 1))
set_option maxHeartbeats 4000000 in
theorem mt_X8_lay_I_x (l : Launch) (G : GT) (aS : Nat) (hfl : l.flags = pinnedFlags ++ [noTraceFlag]) (h h_r : Nat) (sz : Nat) (rn : Nat) (rw : Nat → Int32) (p1 : Int32) (p2 : Int32) (p3 : Int64) (Q : ((Nat → Int32)) → Prop) (QX : Nat → Prop) (hw : wp_X8_lay_I_x rn rw p1 p2 p3 Q QX) : MetT l yX8_lay (ws_ yX8_lay cX8_lay 5 none) ({ frames := 8, cells := 3, slots := 1010, locals := 10248 } : Room) (va_Pc [.ref h, .int p1, .int p2, .long p3] (fun U => U.heap.size = sz ∧ va_P G.1 gCl [oc h 8 [.ref h_r], ai G h_r rn rw] U.heap ∧ gK G U ∧ va_D (fun _ => True) [oc h 8 [.ref h_r], ai G h_r rn rw] ∧ stS aS U)) ((fun A => (va_QEv (fun (u : (Nat → Int32)) => Q u) QX (fun u t => va_P G.1 gCl [oc h 8 [.ref h_r], ai G h_r rn u] t.heap ∧ va_D A [oc h 8 [.ref h_r], ai G h_r rn u]) (fun t => va_P G.1 gCl [oc h 8 [.ref h_r], ai G h_r rn rw] t.heap ∧ va_D A [oc h 8 [.ref h_r], ai G h_r rn rw]) A)) (va_A [oc h 8 [.ref h_r], ai G h_r rn rw] sz)) 3 1010 (va_A [oc h 8 [.ref h_r], ai G h_r rn rw] sz) := by
  refine MetT.ofW (cc := cX8_lay) (maxL := 5) (ret := none) (by decide) rfl ?_
  intro p e s m args below meth c s₁ B hml hno hv
  obtain ⟨rfl, hsz, hP, hK, hD0, hst⟩ := hv
  have hx := B.exec
  have hb := B.bytes
  have hr := B.returns
  have hts := atoms_spec (ws := (ws_ yX8_lay cX8_lay 5 none)) B.pre
  have hts : ∀ w ∈ lw_all, w.before _ s = true := fun w h => hts w (List.mem_cons_of_mem _ h)
  have hown : s.vm.findClass RX8 = some m.cls := findClass_of_methodNamed B.named
  have hlocks := B.notSynchronized
  subst hsz
  have hD := hD0.self (sz := s.heap.size)
  generalize hAe : va_A [oc h 8 [.ref h_r], ai G h_r rn rw] s.heap.size = A at hD ⊢
  have hA : ∀ q : Nat, s.heap.size ≤ q → A q := fun q h => by rw [← hAe]; exact Or.inr h
  have hS : va_S A s.heap s.heap [] := va_S.rf
  have hX : XCx l aS s A := ⟨hfl, hst, fun q cell hq hc => va_A.ns hP (by rw [hAe]; exact hq) hc⟩
  have C : Cx p s m meth c cX8_lay 5 none RX8 ([.ref h, .int p1, .int p2, .long p3] : List Value).toArray G A := ⟨hx, hb, hr, hlocks, hml, hown, hts, hK, hA⟩
  have hl := lv_entry ([.ref h, .int p1, .int p2, .long p3]) (n := 5) (Nat.le_of_ble_eq_true rfl)
  rw [lg_entry_eq]
  generalize (lg_sl ([.ref h, .int p1, .int p2, .long p3]) ++ List.replicate (5 - (lg_sl ([.ref h, .int p1, .int p2, .long p3])).length) Slot.unset).toArray = ls at hl ⊢
  have hl : lv_has ls 5 [(0, .ref h), (1, .int p1), (2, .int p2), (3, .long p3)] := hl
  unfold wp_X8_lay_I_x at hw
  refine lv_iload_n hx hb dX8_lay_0 rfl (lv_at hl 1 rfl) ?_
  by_cases c_1 : p1 = (0 : Int32)
  · replace hw := hw.1 c_1
    refine z_tabIn (k := (0 : Int32)) (off := 27) (tgt := 28) hx hb dX8_lay_1 c_1 (by decide) rfl (by decide) ?_
    refine lv_aload_n hx hb dX8_lay_28 rfl (lv_at hl 0 rfl) ?_
    refine va_get (D := G.1) (ci := 8) (v := .ref h_r) (C := RX8) (T := TX8) (N := 1) hx hb hts in_X8 hown hK.1 hP 0 rfl rfl 0 (by decide) (hts _ q250) (fun _ h9 => h9) rfl dX8_lay_29 ?_
    refine w_castNo (C := "[I") (nm := "[B") hx hb (hml.trans hl.1.symm) hts hK hX hS hP hown (hts _ q661) 1 rfl ((hK.1.2 0 _ rfl).2.nm rfl rfl) (hK.2.2 ("[I", "[B") (by decide +kernel)) (x_arr hK.1 0 rfl) (x_arrN hK.1 3 rfl ((hK.1.2 3 _ rfl).2.nm rfl rfl)) (by decide +kernel) (by decide +kernel) dX8_lay_32 (Nat.le_of_ble_eq_true rfl) (Nat.le_of_ble_eq_true rfl) (Nat.le_of_ble_eq_true rfl) (Nat.le_of_ble_eq_true rfl) (Nat.le_of_ble_eq_true rfl) (fun x_2 H hxo hP hS hz hk => ?_)
    have hP9 := hP
    have hD9 := hD
    exact wx_leaveE hno hlocks hxo hw (fun t ht => ⟨by rw [ht]; exact hP9, hD9⟩) hS
  by_cases c_3 : p1 = (1 : Int32)
  · replace hw := hw.2.1 c_3
    refine z_tabIn (k := (1 : Int32)) (off := 42) (tgt := 43) hx hb dX8_lay_1 c_3 (by decide) rfl (by decide) ?_
    refine lv_aload_n hx hb dX8_lay_43 rfl (lv_at hl 0 rfl) ?_
    refine va_get (D := G.1) (ci := 8) (v := .ref h_r) (C := RX8) (T := TX8) (N := 1) hx hb hts in_X8 hown hK.1 hP 0 rfl rfl 0 (by decide) (hts _ q250) (fun _ h9 => h9) rfl dX8_lay_44 ?_
    refine w_castNo (C := "[I") (nm := "[S") hx hb (hml.trans hl.1.symm) hts hK hX hS hP hown (hts _ q662) 1 rfl ((hK.1.2 0 _ rfl).2.nm rfl rfl) (hK.2.2 ("[I", "[S") (by decide +kernel)) (x_arr hK.1 0 rfl) (x_arrN hK.1 4 rfl ((hK.1.2 4 _ rfl).2.nm rfl rfl)) (by decide +kernel) (by decide +kernel) dX8_lay_47 (Nat.le_of_ble_eq_true rfl) (Nat.le_of_ble_eq_true rfl) (Nat.le_of_ble_eq_true rfl) (Nat.le_of_ble_eq_true rfl) (Nat.le_of_ble_eq_true rfl) (fun x_4 H hxo hP hS hz hk => ?_)
    have hP9 := hP
    have hD9 := hD
    exact wx_leaveE hno hlocks hxo hw (fun t ht => ⟨by rw [ht]; exact hP9, hD9⟩) hS
  by_cases c_5 : p1 = (2 : Int32)
  · replace hw := hw.2.2.1 c_5
    refine z_tabIn (k := (2 : Int32)) (off := 57) (tgt := 58) hx hb dX8_lay_1 c_5 (by decide) rfl (by decide) ?_
    refine lv_aload_n hx hb dX8_lay_58 rfl (lv_at hl 0 rfl) ?_
    refine va_get (D := G.1) (ci := 8) (v := .ref h_r) (C := RX8) (T := TX8) (N := 1) hx hb hts in_X8 hown hK.1 hP 0 rfl rfl 0 (by decide) (hts _ q250) (fun _ h9 => h9) rfl dX8_lay_59 ?_
    refine va_castA hx hb hown (hts _ q663) hP 1 rfl ((hK.1.2 0 _ rfl).2.nm rfl rfl) dX8_lay_62 ?_
    refine lv_iload_n hx hb dX8_lay_65 rfl (lv_at hl 2 rfl) ?_
    refine lv_lload_n hx hb dX8_lay_66 rfl (lv_at hl 3 rfl) ?_
    refine lv_l2i hx hb dX8_lay_67 rfl ?_
    refine lv_topi (fun v_6 ev_6 => ?_)
    replace hw := hw v_6 ev_6
    by_cases c_8 : vp_in p2 rn
    · replace hw := hw.1 c_8
      refine z_iast hx hb hK.1 hP hD hS 1 0 rfl rfl c_8 dX8_lay_68 (k := p2.toNatClampNeg) rfl (fun f_9 ef_9 H locs hP hD hS => ?_)
      replace hw := hw f_9 ef_9
      have hP : va_P G.1 gCl [oc h 8 [.ref h_r], ai G h_r rn f_9] H := hP
      have hD : va_D A [oc h 8 [.ref h_r], ai G h_r rn f_9] := hD
      refine lv_goto (tgt := 82) hx hb dX8_lay_69 (by decide) ?_
      have hP9 := hP
      have hD9 := hD
      exact w_toT (w_widen (k := 3) (n := 1010) (by first | exact Nat.le_of_ble_eq_true rfl | omega) (by first | exact Nat.le_of_ble_eq_true rfl | omega) (W.vret hx hb hr (fun t ht hW => ⟨Or.inl ⟨f_9, rfl, hw, by rw [ht]; exact hP9, hD9⟩, hS.F ht⟩) hS.2.2 dX8_lay_82))
    · replace hw := hw.2 c_8
      obtain ⟨hn31, hw⟩ := hw
      refine w_outI hx hb (hml.trans hl.1.symm) hts hK hX hS hP 1 rfl c_8 hn31 dX8_lay_68 (Nat.le_of_ble_eq_true rfl) (Nat.le_of_ble_eq_true rfl) (Nat.le_of_ble_eq_true rfl) (Nat.le_of_ble_eq_true rfl) (Nat.le_of_ble_eq_true rfl) (fun x_7 H hxo hP hS hz hk => ?_)
      have hP9 := hP
      have hD9 := hD
      exact wx_leaveE hno hlocks hxo hw (fun t ht => ⟨by rw [ht]; exact hP9, hD9⟩) hS
  replace hw := hw.2.2.2 ⟨c_1, c_3, c_5⟩
  refine lv_tableOut (tgt := 72) hx hb dX8_lay_1 (z_tabOut (0) 3 [(0 : Int32), (1 : Int32), (2 : Int32)] (by decide +kernel) (List.forall_mem_cons.mpr ⟨c_1, (List.forall_mem_cons.mpr ⟨c_3, (List.forall_mem_cons.mpr ⟨c_5, fun _ h9 => absurd h9 List.not_mem_nil⟩)⟩)⟩)) (by decide) ?_
  refine lv_aload_n hx hb dX8_lay_72 rfl (lv_at hl 0 rfl) ?_
  refine va_get (D := G.1) (ci := 8) (v := .ref h_r) (C := RX8) (T := TX8) (N := 1) hx hb hts in_X8 hown hK.1 hP 0 rfl rfl 0 (by decide) (hts _ q250) (fun _ h9 => h9) rfl dX8_lay_73 ?_
  refine w_castNo (C := "[I") (nm := "[J") hx hb (hml.trans hl.1.symm) hts hK hX hS hP hown (hts _ q668) 1 rfl ((hK.1.2 0 _ rfl).2.nm rfl rfl) (hK.2.2 ("[I", "[J") (by decide +kernel)) (x_arr hK.1 0 rfl) (x_arrN hK.1 1 rfl ((hK.1.2 1 _ rfl).2.nm rfl rfl)) (by decide +kernel) (by decide +kernel) dX8_lay_76 (Nat.le_of_ble_eq_true rfl) (Nat.le_of_ble_eq_true rfl) (Nat.le_of_ble_eq_true rfl) (Nat.le_of_ble_eq_true rfl) (Nat.le_of_ble_eq_true rfl) (fun x_10 H hxo hP hS hz hk => ?_)
  have hP9 := hP
  have hD9 := hD
  exact wx_leaveE hno hlocks hxo hw (fun t ht => ⟨by rw [ht]; exact hP9, hD9⟩) hS
/-! BattleBench.Sheet.lay(IIJ)V -/
def wp_X8_lay_J_x (rn : Nat) (rw : Nat → Int64) (p1 : Int32) (p2 : Int32) (p3 : Int64) (Q : ((Nat → Int64)) → Prop) (QX : Nat → Prop) : Prop :=
  ((p1 = (0 : Int32) → QX 1) ∧ (p1 = (1 : Int32) → QX 1) ∧ (p1 = (2 : Int32) → QX 1) ∧ (¬ p1 = (0 : Int32) ∧ ¬ p1 = (1 : Int32) ∧ ¬ p1 = (2 : Int32) → ((vp_in p2 rn → ∀ f_9 : Nat → Int64, f_9 = vp_updL rw p2.toNatClampNeg p3 → Q f_9) ∧ (¬ vp_in p2 rn → (rn < 2147483648 ∧ QX 2)))))
set_option maxHeartbeats 4000000 in
theorem mt_X8_lay_J_x (l : Launch) (G : GT) (aS : Nat) (hfl : l.flags = pinnedFlags ++ [noTraceFlag]) (h h_r : Nat) (sz : Nat) (rn : Nat) (rw : Nat → Int64) (p1 : Int32) (p2 : Int32) (p3 : Int64) (Q : ((Nat → Int64)) → Prop) (QX : Nat → Prop) (hw : wp_X8_lay_J_x rn rw p1 p2 p3 Q QX) : MetT l yX8_lay (ws_ yX8_lay cX8_lay 5 none) ({ frames := 8, cells := 3, slots := 1010, locals := 10248 } : Room) (va_Pc [.ref h, .int p1, .int p2, .long p3] (fun U => U.heap.size = sz ∧ va_P G.1 gCl [oc h 8 [.ref h_r], al G h_r rn rw] U.heap ∧ gK G U ∧ va_D (fun _ => True) [oc h 8 [.ref h_r], al G h_r rn rw] ∧ stS aS U)) ((fun A => (va_QEv (fun (u : (Nat → Int64)) => Q u) QX (fun u t => va_P G.1 gCl [oc h 8 [.ref h_r], al G h_r rn u] t.heap ∧ va_D A [oc h 8 [.ref h_r], al G h_r rn u]) (fun t => va_P G.1 gCl [oc h 8 [.ref h_r], al G h_r rn rw] t.heap ∧ va_D A [oc h 8 [.ref h_r], al G h_r rn rw]) A)) (va_A [oc h 8 [.ref h_r], al G h_r rn rw] sz)) 3 1010 (va_A [oc h 8 [.ref h_r], al G h_r rn rw] sz) := by
  refine MetT.ofW (cc := cX8_lay) (maxL := 5) (ret := none) (by decide) rfl ?_
  intro p e s m args below meth c s₁ B hml hno hv
  obtain ⟨rfl, hsz, hP, hK, hD0, hst⟩ := hv
  have hx := B.exec
  have hb := B.bytes
  have hr := B.returns
  have hts := atoms_spec (ws := (ws_ yX8_lay cX8_lay 5 none)) B.pre
  have hts : ∀ w ∈ lw_all, w.before _ s = true := fun w h => hts w (List.mem_cons_of_mem _ h)
  have hown : s.vm.findClass RX8 = some m.cls := findClass_of_methodNamed B.named
  have hlocks := B.notSynchronized
  subst hsz
  have hD := hD0.self (sz := s.heap.size)
  generalize hAe : va_A [oc h 8 [.ref h_r], al G h_r rn rw] s.heap.size = A at hD ⊢
  have hA : ∀ q : Nat, s.heap.size ≤ q → A q := fun q h => by rw [← hAe]; exact Or.inr h
  have hS : va_S A s.heap s.heap [] := va_S.rf
  have hX : XCx l aS s A := ⟨hfl, hst, fun q cell hq hc => va_A.ns hP (by rw [hAe]; exact hq) hc⟩
  have C : Cx p s m meth c cX8_lay 5 none RX8 ([.ref h, .int p1, .int p2, .long p3] : List Value).toArray G A := ⟨hx, hb, hr, hlocks, hml, hown, hts, hK, hA⟩
  have hl := lv_entry ([.ref h, .int p1, .int p2, .long p3]) (n := 5) (Nat.le_of_ble_eq_true rfl)
  rw [lg_entry_eq]
  generalize (lg_sl ([.ref h, .int p1, .int p2, .long p3]) ++ List.replicate (5 - (lg_sl ([.ref h, .int p1, .int p2, .long p3])).length) Slot.unset).toArray = ls at hl ⊢
  have hl : lv_has ls 5 [(0, .ref h), (1, .int p1), (2, .int p2), (3, .long p3)] := hl
  unfold wp_X8_lay_J_x at hw
  refine lv_iload_n hx hb dX8_lay_0 rfl (lv_at hl 1 rfl) ?_
  by_cases c_1 : p1 = (0 : Int32)
  · replace hw := hw.1 c_1
    refine z_tabIn (k := (0 : Int32)) (off := 27) (tgt := 28) hx hb dX8_lay_1 c_1 (by decide) rfl (by decide) ?_
    refine lv_aload_n hx hb dX8_lay_28 rfl (lv_at hl 0 rfl) ?_
    refine va_get (D := G.1) (ci := 8) (v := .ref h_r) (C := RX8) (T := TX8) (N := 1) hx hb hts in_X8 hown hK.1 hP 0 rfl rfl 0 (by decide) (hts _ q250) (fun _ h9 => h9) rfl dX8_lay_29 ?_
    refine w_castNo (C := "[J") (nm := "[B") hx hb (hml.trans hl.1.symm) hts hK hX hS hP hown (hts _ q661) 1 rfl ((hK.1.2 1 _ rfl).2.nm rfl rfl) (hK.2.2 ("[J", "[B") (by decide +kernel)) (x_arr hK.1 1 rfl) (x_arrN hK.1 3 rfl ((hK.1.2 3 _ rfl).2.nm rfl rfl)) (by decide +kernel) (by decide +kernel) dX8_lay_32 (Nat.le_of_ble_eq_true rfl) (Nat.le_of_ble_eq_true rfl) (Nat.le_of_ble_eq_true rfl) (Nat.le_of_ble_eq_true rfl) (Nat.le_of_ble_eq_true rfl) (fun x_2 H hxo hP hS hz hk => ?_)
    have hP9 := hP
    have hD9 := hD
    exact wx_leaveE hno hlocks hxo hw (fun t ht => ⟨by rw [ht]; exact hP9, hD9⟩) hS
  by_cases c_3 : p1 = (1 : Int32)
  · replace hw := hw.2.1 c_3
    refine z_tabIn (k := (1 : Int32)) (off := 42) (tgt := 43) hx hb dX8_lay_1 c_3 (by decide) rfl (by decide) ?_
    refine lv_aload_n hx hb dX8_lay_43 rfl (lv_at hl 0 rfl) ?_
    refine va_get (D := G.1) (ci := 8) (v := .ref h_r) (C := RX8) (T := TX8) (N := 1) hx hb hts in_X8 hown hK.1 hP 0 rfl rfl 0 (by decide) (hts _ q250) (fun _ h9 => h9) rfl dX8_lay_44 ?_
    refine w_castNo (C := "[J") (nm := "[S") hx hb (hml.trans hl.1.symm) hts hK hX hS hP hown (hts _ q662) 1 rfl ((hK.1.2 1 _ rfl).2.nm rfl rfl) (hK.2.2 ("[J", "[S") (by decide +kernel)) (x_arr hK.1 1 rfl) (x_arrN hK.1 4 rfl ((hK.1.2 4 _ rfl).2.nm rfl rfl)) (by decide +kernel) (by decide +kernel) dX8_lay_47 (Nat.le_of_ble_eq_true rfl) (Nat.le_of_ble_eq_true rfl) (Nat.le_of_ble_eq_true rfl) (Nat.le_of_ble_eq_true rfl) (Nat.le_of_ble_eq_true rfl) (fun x_4 H hxo hP hS hz hk => ?_)
    have hP9 := hP
    have hD9 := hD
    exact wx_leaveE hno hlocks hxo hw (fun t ht => ⟨by rw [ht]; exact hP9, hD9⟩) hS
  by_cases c_5 : p1 = (2 : Int32)
  · replace hw := hw.2.2.1 c_5
    refine z_tabIn (k := (2 : Int32)) (off := 57) (tgt := 58) hx hb dX8_lay_1 c_5 (by decide) rfl (by decide) ?_
    refine lv_aload_n hx hb dX8_lay_58 rfl (lv_at hl 0 rfl) ?_
    refine va_get (D := G.1) (ci := 8) (v := .ref h_r) (C := RX8) (T := TX8) (N := 1) hx hb hts in_X8 hown hK.1 hP 0 rfl rfl 0 (by decide) (hts _ q250) (fun _ h9 => h9) rfl dX8_lay_59 ?_
    refine w_castNo (C := "[J") (nm := "[I") hx hb (hml.trans hl.1.symm) hts hK hX hS hP hown (hts _ q663) 1 rfl ((hK.1.2 1 _ rfl).2.nm rfl rfl) (hK.2.2 ("[J", "[I") (by decide +kernel)) (x_arr hK.1 1 rfl) (x_arrN hK.1 0 rfl ((hK.1.2 0 _ rfl).2.nm rfl rfl)) (by decide +kernel) (by decide +kernel) dX8_lay_62 (Nat.le_of_ble_eq_true rfl) (Nat.le_of_ble_eq_true rfl) (Nat.le_of_ble_eq_true rfl) (Nat.le_of_ble_eq_true rfl) (Nat.le_of_ble_eq_true rfl) (fun x_6 H hxo hP hS hz hk => ?_)
    have hP9 := hP
    have hD9 := hD
    exact wx_leaveE hno hlocks hxo hw (fun t ht => ⟨by rw [ht]; exact hP9, hD9⟩) hS
  replace hw := hw.2.2.2 ⟨c_1, c_3, c_5⟩
  refine lv_tableOut (tgt := 72) hx hb dX8_lay_1 (z_tabOut (0) 3 [(0 : Int32), (1 : Int32), (2 : Int32)] (by decide +kernel) (List.forall_mem_cons.mpr ⟨c_1, (List.forall_mem_cons.mpr ⟨c_3, (List.forall_mem_cons.mpr ⟨c_5, fun _ h9 => absurd h9 List.not_mem_nil⟩)⟩)⟩)) (by decide) ?_
  refine lv_aload_n hx hb dX8_lay_72 rfl (lv_at hl 0 rfl) ?_
  refine va_get (D := G.1) (ci := 8) (v := .ref h_r) (C := RX8) (T := TX8) (N := 1) hx hb hts in_X8 hown hK.1 hP 0 rfl rfl 0 (by decide) (hts _ q250) (fun _ h9 => h9) rfl dX8_lay_73 ?_
  refine va_castA hx hb hown (hts _ q668) hP 1 rfl ((hK.1.2 1 _ rfl).2.nm rfl rfl) dX8_lay_76 ?_
  refine lv_iload_n hx hb dX8_lay_79 rfl (lv_at hl 2 rfl) ?_
  refine lv_lload_n hx hb dX8_lay_80 rfl (lv_at hl 3 rfl) ?_
  by_cases c_8 : vp_in p2 rn
  · replace hw := hw.1 c_8
    refine z_last hx hb hK.1 hP hD hS 1 1 rfl rfl c_8 dX8_lay_81 (k := p2.toNatClampNeg) rfl (fun f_9 ef_9 H locs hP hD hS => ?_)
    replace hw := hw f_9 ef_9
    have hP : va_P G.1 gCl [oc h 8 [.ref h_r], al G h_r rn f_9] H := hP
    have hD : va_D A [oc h 8 [.ref h_r], al G h_r rn f_9] := hD
    have hP9 := hP
    have hD9 := hD
    exact w_toT (w_widen (k := 3) (n := 1010) (by first | exact Nat.le_of_ble_eq_true rfl | omega) (by first | exact Nat.le_of_ble_eq_true rfl | omega) (W.vret hx hb hr (fun t ht hW => ⟨Or.inl ⟨f_9, rfl, hw, by rw [ht]; exact hP9, hD9⟩, hS.F ht⟩) hS.2.2 dX8_lay_82))
  · replace hw := hw.2 c_8
    obtain ⟨hn31, hw⟩ := hw
    refine w_outJ hx hb (hml.trans hl.1.symm) hts hK hX hS hP 1 rfl c_8 hn31 dX8_lay_81 (Nat.le_of_ble_eq_true rfl) (Nat.le_of_ble_eq_true rfl) (Nat.le_of_ble_eq_true rfl) (Nat.le_of_ble_eq_true rfl) (Nat.le_of_ble_eq_true rfl) (fun x_7 H hxo hP hS hz hk => ?_)
    have hP9 := hP
    have hD9 := hD
    exact wx_leaveE hno hlocks hxo hw (fun t ht => ⟨by rw [ht]; exact hP9, hD9⟩) hS
/-! BattleBench.Sheet.lay(IIJ)V -/
def wp_X8_lay_N_x (p1 : Int32) (p2 : Int32) (p3 : Int64) (Q : Prop) (QX : Nat → Prop) : Prop :=
  ((p1 = (0 : Int32) → QX 0) ∧ (p1 = (1 : Int32) → QX 0) ∧ (p1 = (2 : Int32) → QX 0) ∧ (¬ p1 = (0 : Int32) ∧ ¬ p1 = (1 : Int32) ∧ ¬ p1 = (2 : Int32) → QX 0))
set_option maxHeartbeats 4000000 in
theorem mt_X8_lay_N_x (l : Launch) (G : GT) (aS : Nat) (hfl : l.flags = pinnedFlags ++ [noTraceFlag]) (h : Nat) (sz : Nat) (p1 : Int32) (p2 : Int32) (p3 : Int64) (Q : Prop) (QX : Nat → Prop) (hw : wp_X8_lay_N_x p1 p2 p3 Q QX) : MetT l yX8_lay (ws_ yX8_lay cX8_lay 5 none) ({ frames := 8, cells := 3, slots := 1010, locals := 10248 } : Room) (va_Pc [.ref h, .int p1, .int p2, .long p3] (fun U => U.heap.size = sz ∧ va_P G.1 gCl [oc h 8 [.null]] U.heap ∧ gK G U ∧ va_D (fun _ => True) [oc h 8 [.null]] ∧ stS aS U)) ((fun A => (va_QEv (fun (u : Unit) => Q ) QX (fun u t => va_P G.1 gCl [oc h 8 [.null]] t.heap ∧ va_D A [oc h 8 [.null]]) (fun t => va_P G.1 gCl [oc h 8 [.null]] t.heap ∧ va_D A [oc h 8 [.null]]) A)) (va_A [oc h 8 [.null]] sz)) 3 1010 (va_A [oc h 8 [.null]] sz) := by
  refine MetT.ofW (cc := cX8_lay) (maxL := 5) (ret := none) (by decide) rfl ?_
  intro p e s m args below meth c s₁ B hml hno hv
  obtain ⟨rfl, hsz, hP, hK, hD0, hst⟩ := hv
  have hx := B.exec
  have hb := B.bytes
  have hr := B.returns
  have hts := atoms_spec (ws := (ws_ yX8_lay cX8_lay 5 none)) B.pre
  have hts : ∀ w ∈ lw_all, w.before _ s = true := fun w h => hts w (List.mem_cons_of_mem _ h)
  have hown : s.vm.findClass RX8 = some m.cls := findClass_of_methodNamed B.named
  have hlocks := B.notSynchronized
  subst hsz
  have hD := hD0.self (sz := s.heap.size)
  generalize hAe : va_A [oc h 8 [.null]] s.heap.size = A at hD ⊢
  have hA : ∀ q : Nat, s.heap.size ≤ q → A q := fun q h => by rw [← hAe]; exact Or.inr h
  have hS : va_S A s.heap s.heap [] := va_S.rf
  have hX : XCx l aS s A := ⟨hfl, hst, fun q cell hq hc => va_A.ns hP (by rw [hAe]; exact hq) hc⟩
  have C : Cx p s m meth c cX8_lay 5 none RX8 ([.ref h, .int p1, .int p2, .long p3] : List Value).toArray G A := ⟨hx, hb, hr, hlocks, hml, hown, hts, hK, hA⟩
  have hl := lv_entry ([.ref h, .int p1, .int p2, .long p3]) (n := 5) (Nat.le_of_ble_eq_true rfl)
  rw [lg_entry_eq]
  generalize (lg_sl ([.ref h, .int p1, .int p2, .long p3]) ++ List.replicate (5 - (lg_sl ([.ref h, .int p1, .int p2, .long p3])).length) Slot.unset).toArray = ls at hl ⊢
  have hl : lv_has ls 5 [(0, .ref h), (1, .int p1), (2, .int p2), (3, .long p3)] := hl
  unfold wp_X8_lay_N_x at hw
  refine lv_iload_n hx hb dX8_lay_0 rfl (lv_at hl 1 rfl) ?_
  by_cases c_1 : p1 = (0 : Int32)
  · replace hw := hw.1 c_1
    refine z_tabIn (k := (0 : Int32)) (off := 27) (tgt := 28) hx hb dX8_lay_1 c_1 (by decide) rfl (by decide) ?_
    refine lv_aload_n hx hb dX8_lay_28 rfl (lv_at hl 0 rfl) ?_
    refine va_get (D := G.1) (ci := 8) (v := .null) (C := RX8) (T := TX8) (N := 1) hx hb hts in_X8 hown hK.1 hP 0 rfl rfl 0 (by decide) (hts _ q250) (fun _ h9 => h9) rfl dX8_lay_29 ?_
    refine lv_castN hx hb dX8_lay_32 ?_
    refine lv_iload_n hx hb dX8_lay_35 rfl (lv_at hl 2 rfl) ?_
    refine lv_lload_n hx hb dX8_lay_36 rfl (lv_at hl 3 rfl) ?_
    refine lv_l2i hx hb dX8_lay_37 rfl ?_
    refine lv_i2b hx hb dX8_lay_38 rfl ?_
    refine w_nullB hx hb (hml.trans hl.1.symm) hts hK hX hS hP dX8_lay_39 (Nat.le_of_ble_eq_true rfl) (Nat.le_of_ble_eq_true rfl) (Nat.le_of_ble_eq_true rfl) (Nat.le_of_ble_eq_true rfl) (Nat.le_of_ble_eq_true rfl) (fun x_2 H hxo hP hS hz hk => ?_)
    have hP9 := hP
    have hD9 := hD
    exact wx_leaveE hno hlocks hxo hw (fun t ht => ⟨by rw [ht]; exact hP9, hD9⟩) hS
  by_cases c_3 : p1 = (1 : Int32)
  · replace hw := hw.2.1 c_3
    refine z_tabIn (k := (1 : Int32)) (off := 42) (tgt := 43) hx hb dX8_lay_1 c_3 (by decide) rfl (by decide) ?_
    refine lv_aload_n hx hb dX8_lay_43 rfl (lv_at hl 0 rfl) ?_
    refine va_get (D := G.1) (ci := 8) (v := .null) (C := RX8) (T := TX8) (N := 1) hx hb hts in_X8 hown hK.1 hP 0 rfl rfl 0 (by decide) (hts _ q250) (fun _ h9 => h9) rfl dX8_lay_44 ?_
    refine lv_castN hx hb dX8_lay_47 ?_
    refine lv_iload_n hx hb dX8_lay_50 rfl (lv_at hl 2 rfl) ?_
    refine lv_lload_n hx hb dX8_lay_51 rfl (lv_at hl 3 rfl) ?_
    refine lv_l2i hx hb dX8_lay_52 rfl ?_
    refine lv_i2s hx hb dX8_lay_53 rfl ?_
    refine w_nullS hx hb (hml.trans hl.1.symm) hts hK hX hS hP dX8_lay_54 (Nat.le_of_ble_eq_true rfl) (Nat.le_of_ble_eq_true rfl) (Nat.le_of_ble_eq_true rfl) (Nat.le_of_ble_eq_true rfl) (Nat.le_of_ble_eq_true rfl) (fun x_4 H hxo hP hS hz hk => ?_)
    have hP9 := hP
    have hD9 := hD
    exact wx_leaveE hno hlocks hxo hw (fun t ht => ⟨by rw [ht]; exact hP9, hD9⟩) hS
  by_cases c_5 : p1 = (2 : Int32)
  · replace hw := hw.2.2.1 c_5
    refine z_tabIn (k := (2 : Int32)) (off := 57) (tgt := 58) hx hb dX8_lay_1 c_5 (by decide) rfl (by decide) ?_
    refine lv_aload_n hx hb dX8_lay_58 rfl (lv_at hl 0 rfl) ?_
    refine va_get (D := G.1) (ci := 8) (v := .null) (C := RX8) (T := TX8) (N := 1) hx hb hts in_X8 hown hK.1 hP 0 rfl rfl 0 (by decide) (hts _ q250) (fun _ h9 => h9) rfl dX8_lay_59 ?_
    refine lv_castN hx hb dX8_lay_62 ?_
    refine lv_iload_n hx hb dX8_lay_65 rfl (lv_at hl 2 rfl) ?_
    refine lv_lload_n hx hb dX8_lay_66 rfl (lv_at hl 3 rfl) ?_
    refine lv_l2i hx hb dX8_lay_67 rfl ?_
    refine w_nullI hx hb (hml.trans hl.1.symm) hts hK hX hS hP dX8_lay_68 (Nat.le_of_ble_eq_true rfl) (Nat.le_of_ble_eq_true rfl) (Nat.le_of_ble_eq_true rfl) (Nat.le_of_ble_eq_true rfl) (Nat.le_of_ble_eq_true rfl) (fun x_6 H hxo hP hS hz hk => ?_)
    have hP9 := hP
    have hD9 := hD
    exact wx_leaveE hno hlocks hxo hw (fun t ht => ⟨by rw [ht]; exact hP9, hD9⟩) hS
  replace hw := hw.2.2.2 ⟨c_1, c_3, c_5⟩
  refine lv_tableOut (tgt := 72) hx hb dX8_lay_1 (z_tabOut (0) 3 [(0 : Int32), (1 : Int32), (2 : Int32)] (by decide +kernel) (List.forall_mem_cons.mpr ⟨c_1, (List.forall_mem_cons.mpr ⟨c_3, (List.forall_mem_cons.mpr ⟨c_5, fun _ h9 => absurd h9 List.not_mem_nil⟩)⟩)⟩)) (by decide) ?_
  refine lv_aload_n hx hb dX8_lay_72 rfl (lv_at hl 0 rfl) ?_
  refine va_get (D := G.1) (ci := 8) (v := .null) (C := RX8) (T := TX8) (N := 1) hx hb hts in_X8 hown hK.1 hP 0 rfl rfl 0 (by decide) (hts _ q250) (fun _ h9 => h9) rfl dX8_lay_73 ?_
  refine lv_castN hx hb dX8_lay_76 ?_
  refine lv_iload_n hx hb dX8_lay_79 rfl (lv_at hl 2 rfl) ?_
  refine lv_lload_n hx hb dX8_lay_80 rfl (lv_at hl 3 rfl) ?_
  refine w_nullJ hx hb (hml.trans hl.1.symm) hts hK hX hS hP dX8_lay_81 (Nat.le_of_ble_eq_true rfl) (Nat.le_of_ble_eq_true rfl) (Nat.le_of_ble_eq_true rfl) (Nat.le_of_ble_eq_true rfl) (Nat.le_of_ble_eq_true rfl) (fun x_7 H hxo hP hS hz hk => ?_)
  have hP9 := hP
  have hD9 := hD
  exact wx_leaveE hno hlocks hxo hw (fun t ht => ⟨by rw [ht]; exact hP9, hD9⟩) hS
/-! BattleBench.drop(I)I -/
def wp_X0_drop_B (rn : Nat) (rw : Nat → Int32) (p1 : Int32) (Q : Int32 → (Bool) → Prop) : Prop :=
  wp_X0_isSheet  p1 (0 : Int32) (fun r_1 => ((¬ (r_1 = 0) → (vp_in p1 4 ∧ (vp_in p1 4 ∧ wp_X8_size_B rn rw  (fun r_5 => (vp_in p1 4 ∧ Q r_5 true))))) ∧ ((r_1 = 0) → Q (-1 : Int32) false)))
set_option maxHeartbeats 4000000 in
theorem mt_X0_drop_B (l : Launch) (G : GT) (h h_kinds h_now h_fault h_tape h_got h_failing h_past h_aside h_best h_tried h_kept h_keptPast h_sheets h_sheets_x h_sheets_x_r : Nat) (shf : Nat → Option Nat) (sz : Nat) (taped : Int32) (reads : Int32) (undoMany : Int32) (keptMany : Int32) (isKept : Int32) (rn : Nat) (rw : Nat → Int32) (p1 : Int32)(hsh : shf p1.toNatClampNeg = some h_sheets_x) (Q : Int32 → (Bool) → Prop) (hw : wp_X0_drop_B rn rw p1 Q) : Met l yX0_drop (ws_ yX0_drop cX0_drop 3 (some .int)) ({ frames := 2, cells := 0, slots := 0, locals := 46 } : Room) (va_Pc [.ref h, .int p1] (fun U => U.heap.size = sz ∧ va_P G.1 gCl [oc h 0 [.ref h_kinds, .ref h_now, .ref h_fault, .ref h_tape, .int taped, .int reads, .ref h_got, .ref h_failing, .ref h_past, .int undoMany, .ref h_aside, .ref h_best, .ref h_tried, .ref h_kept, .ref h_keptPast, .int keptMany, .int isKept, .ref h_sheets], arf G h_sheets 7 4 shf, oc h_sheets_x 8 [.ref h_sheets_x_r], ay G h_sheets_x_r rn rw] U.heap ∧ gK G U ∧ va_D (fun _ => True) [oc h 0 [.ref h_kinds, .ref h_now, .ref h_fault, .ref h_tape, .int taped, .int reads, .ref h_got, .ref h_failing, .ref h_past, .int undoMany, .ref h_aside, .ref h_best, .ref h_tried, .ref h_kept, .ref h_keptPast, .int keptMany, .int isKept, .ref h_sheets], arf G h_sheets 7 4 shf, oc h_sheets_x 8 [.ref h_sheets_x_r], ay G h_sheets_x_r rn rw])) ((fun A => (va_Qi (fun (r : Int32) (u : Bool) => Q r u) (fun u t => va_P G.1 gCl [oc h 0 [.ref h_kinds, .ref h_now, .ref h_fault, .ref h_tape, .int taped, .int reads, .ref h_got, .ref h_failing, .ref h_past, .int undoMany, .ref h_aside, .ref h_best, .ref h_tried, .ref h_kept, .ref h_keptPast, .int keptMany, .int isKept, .ref h_sheets], arf G h_sheets 7 4 shf, oc h_sheets_x 8 [(rfd u h_sheets_x_r)], ay G h_sheets_x_r rn rw] t.heap ∧ va_D A [oc h 0 [.ref h_kinds, .ref h_now, .ref h_fault, .ref h_tape, .int taped, .int reads, .ref h_got, .ref h_failing, .ref h_past, .int undoMany, .ref h_aside, .ref h_best, .ref h_tried, .ref h_kept, .ref h_keptPast, .int keptMany, .int isKept, .ref h_sheets], arf G h_sheets 7 4 shf, oc h_sheets_x 8 [(rfd u h_sheets_x_r)], ay G h_sheets_x_r rn rw]) A)) (va_A [oc h 0 [.ref h_kinds, .ref h_now, .ref h_fault, .ref h_tape, .int taped, .int reads, .ref h_got, .ref h_failing, .ref h_past, .int undoMany, .ref h_aside, .ref h_best, .ref h_tried, .ref h_kept, .ref h_keptPast, .int keptMany, .int isKept, .ref h_sheets], arf G h_sheets 7 4 shf, oc h_sheets_x 8 [.ref h_sheets_x_r], ay G h_sheets_x_r rn rw] sz)) 0 0 (va_A [oc h 0 [.ref h_kinds, .ref h_now, .ref h_fault, .ref h_tape, .int taped, .int reads, .ref h_got, .ref h_failing, .ref h_past, .int undoMany, .ref h_aside, .ref h_best, .ref h_tried, .ref h_kept, .ref h_keptPast, .int keptMany, .int isKept, .ref h_sheets], arf G h_sheets 7 4 shf, oc h_sheets_x 8 [.ref h_sheets_x_r], ay G h_sheets_x_r rn rw] sz) := by
  refine Met.ofW (cc := cX0_drop) (maxL := 3) (ret := (some .int)) (by decide) rfl ?_
  intro p e s m args below meth c s₁ B hml hv
  obtain ⟨rfl, hsz, hP, hK, hD0⟩ := hv
  have hx := B.exec
  have hb := B.bytes
  have hr := B.returns
  have hts := atoms_spec (ws := (ws_ yX0_drop cX0_drop 3 (some .int))) B.pre
  have hts : ∀ w ∈ lw_all, w.before _ s = true := fun w h => hts w (List.mem_cons_of_mem _ h)
  have hown : s.vm.findClass RX0 = some m.cls := findClass_of_methodNamed B.named
  have hlocks := B.notSynchronized
  subst hsz
  have hD := hD0.self (sz := s.heap.size)
  generalize hAe : va_A [oc h 0 [.ref h_kinds, .ref h_now, .ref h_fault, .ref h_tape, .int taped, .int reads, .ref h_got, .ref h_failing, .ref h_past, .int undoMany, .ref h_aside, .ref h_best, .ref h_tried, .ref h_kept, .ref h_keptPast, .int keptMany, .int isKept, .ref h_sheets], arf G h_sheets 7 4 shf, oc h_sheets_x 8 [.ref h_sheets_x_r], ay G h_sheets_x_r rn rw] s.heap.size = A at hD ⊢
  have hA : ∀ q : Nat, s.heap.size ≤ q → A q := fun q h => by rw [← hAe]; exact Or.inr h
  have hS : va_S A s.heap s.heap [] := va_S.rf
  have C : Cx p s m meth c cX0_drop 3 (some .int) RX0 ([.ref h, .int p1] : List Value).toArray G A := ⟨hx, hb, hr, hlocks, hml, hown, hts, hK, hA⟩
  have hl := lv_entry ([.ref h, .int p1]) (n := 3) (Nat.le_of_ble_eq_true rfl)
  rw [lg_entry_eq]
  generalize (lg_sl ([.ref h, .int p1]) ++ List.replicate (3 - (lg_sl ([.ref h, .int p1])).length) Slot.unset).toArray = ls at hl ⊢
  have hl : lv_has ls 3 [(0, .ref h), (1, .int p1)] := hl
  unfold wp_X0_drop_B at hw
  refine lv_iload_n hx hb dX0_drop_0 rfl (lv_at hl 1 rfl) ?_
  refine lv_iconst (v := (0 : Int32)) hx hb dX0_drop_1 (by decide) ?_
  have hPc := hP.sub (ws' := []) [] rfl
  have hDc := hD.sub (ws' := []) [] (by decide) rfl
  have hFc := va_free (wc := []) hD hS hA [] rfl
  refine va_calli (va_runS (As := [.int p1, .int (0 : Int32)]) (rest := []) ⟨hx, hb, hml, hown, hts⟩ (mt_X0_isSheet l G  s.heap.size  p1 (0 : Int32) _ hw) (va_cwS 2 hts (lw_S q648 q649 q54 q650) rfl rfl rfl (by decide +kernel) ⟨Nat.le_of_ble_eq_true rfl, Nat.le_of_ble_eq_true rfl⟩) ⟨fun a U g mk q => by obtain ⟨q0, q1, qP, qK, qD⟩ := q; exact ⟨q0, q1, qP, qK.call, qD⟩, fun U hU hW => ⟨rfl, by rw [hU], by rw [hU]; exact hPc, hK.warm hW, hDc.weaken (fun _ _ _ _ => trivial)⟩⟩ rfl rfl hl.1 rfl (lv_room (Nat.le_of_ble_eq_true rfl)) dX0_drop_2 ⟨Nat.le_of_ble_eq_true rfl, Nat.le_of_ble_eq_true rfl⟩) hS (fun q _ h => hFc q h) hFc (fun r_1 _ t H1 locs ht hvm hw hB hz1 hk1 hS => ?_)
  obtain ⟨hP1, hD1⟩ := hB
  rw [ht] at hP1
  obtain ⟨hP, hD⟩ := va_join (wr := [oc h 0 [.ref h_kinds, .ref h_now, .ref h_fault, .ref h_tape, .int taped, .int reads, .ref h_got, .ref h_failing, .ref h_past, .int undoMany, .ref h_aside, .ref h_best, .ref h_tried, .ref h_kept, .ref h_keptPast, .int keptMany, .int isKept, .ref h_sheets], arf G h_sheets 7 4 shf, oc h_sheets_x 8 [.ref h_sheets_x_r], ay G h_sheets_x_r rn rw]) (w1 := []) hP hD [] [0, 1, 2, 3] rfl rfl (by decide) (by decide) hk1 hFc hP1 hD1
  clear hPc hDc hFc hP1 hD1 hz1 hk1 hvm
  generalize H1 = H at hP hS ⊢
  have hP : va_P G.1 gCl [oc h 0 [.ref h_kinds, .ref h_now, .ref h_fault, .ref h_tape, .int taped, .int reads, .ref h_got, .ref h_failing, .ref h_past, .int undoMany, .ref h_aside, .ref h_best, .ref h_tried, .ref h_kept, .ref h_keptPast, .int keptMany, .int isKept, .ref h_sheets], arf G h_sheets 7 4 shf, oc h_sheets_x 8 [.ref h_sheets_x_r], ay G h_sheets_x_r rn rw] H := hP
  have hD : va_D A [oc h 0 [.ref h_kinds, .ref h_now, .ref h_fault, .ref h_tape, .int taped, .int reads, .ref h_got, .ref h_failing, .ref h_past, .int undoMany, .ref h_aside, .ref h_best, .ref h_tried, .ref h_kept, .ref h_keptPast, .int keptMany, .int isKept, .ref h_sheets], arf G h_sheets 7 4 shf, oc h_sheets_x 8 [.ref h_sheets_x_r], ay G h_sheets_x_r rn rw] := hD
  refine lv_if_ne (tgt := 10) hx hb dX0_drop_5 (by decide) (fun c_2 => ?_) (fun c_2 => ?_)
  · replace hw := hw.1 c_2
    refine lv_aload_n hx hb dX0_drop_10 rfl (lv_at hl 0 rfl) ?_
    refine va_get (D := G.1) (ci := 0) (v := .ref h_sheets) (C := RX0) (T := TX0) (N := 18) hx hb hts in_X0 hown hK.1 hP 0 rfl rfl 17 (by decide) (hts _ q273) (fun _ h9 => h9) rfl dX0_drop_11 ?_
    refine lv_iload_n hx hb dX0_drop_14 rfl (lv_at hl 1 rfl) ?_
    obtain ⟨i_3, hw⟩ := hw
    refine z_aaldS hx hb hK.1 hP 1 7 rfl rfl i_3 dX0_drop_15 hsh ?_
    refine va_getN (D := G.1) (ci := 8) (v := .ref h_sheets_x_r) (C := RX8) (T := TX8) (N := 1) hx hb hts in_X8 hown hK.1 hP 2 rfl rfl 0 (by decide) (hK.n q251 rfl) (fun _ h9 => h9) rfl dX0_drop_16 ?_
    refine lv_ifnonnull (tgt := 25) hx hb dX0_drop_19 (by decide) ?_
    refine lv_aload_n hx hb dX0_drop_25 rfl (lv_at hl 0 rfl) ?_
    refine va_get (D := G.1) (ci := 0) (v := .ref h_sheets) (C := RX0) (T := TX0) (N := 18) hx hb hts in_X0 hown hK.1 hP 0 rfl rfl 17 (by decide) (hts _ q273) (fun _ h9 => h9) rfl dX0_drop_26 ?_
    refine lv_iload_n hx hb dX0_drop_29 rfl (lv_at hl 1 rfl) ?_
    obtain ⟨i_4, hw⟩ := hw
    refine z_aaldS hx hb hK.1 hP 1 7 rfl rfl i_4 dX0_drop_30 hsh ?_
    have hPc := hP.sub (ws' := [oc h_sheets_x 8 [.ref h_sheets_x_r], ay G h_sheets_x_r rn rw]) [2, 3] rfl
    have hDc := hD.sub (ws' := [oc h_sheets_x 8 [.ref h_sheets_x_r], ay G h_sheets_x_r rn rw]) [2, 3] (by decide) rfl
    have hFc := va_free (wc := [oc h_sheets_x 8 [.ref h_sheets_x_r], ay G h_sheets_x_r rn rw]) hD hS hA [2, 3] rfl
    refine va_calli (va_runV (As := []) (rest := []) ⟨hx, hb, hml, hown, hts⟩ (mt_X8_size_B l G h_sheets_x h_sheets_x_r H.size rn rw  _ hw) (cwV 0 hts (lw_V q664 q665 q666 q64 q667) rfl rfl rfl (by decide +kernel) ⟨Nat.le_of_ble_eq_true rfl, Nat.le_of_ble_eq_true rfl⟩) ⟨fun a U g mk q => by obtain ⟨q0, q1, qP, qK, qD⟩ := q; exact ⟨q0, q1, qP, qK.call, qD⟩, va_recv hK.1 hP (ci := 8) (q0 := 2) rfl rfl, fun U hU hW => ⟨rfl, by rw [hU], by rw [hU]; exact hPc, hK.warm hW, hDc.weaken (fun _ _ _ _ => trivial)⟩⟩ rfl rfl hl.1 rfl (lv_room (Nat.le_of_ble_eq_true rfl)) dX0_drop_31 ⟨Nat.le_of_ble_eq_true rfl, Nat.le_of_ble_eq_true rfl⟩) hS (fun q _ h => hFc q h) hFc (fun r_5 _ t H1 locs ht hvm hw hB hz1 hk1 hS => ?_)
    obtain ⟨hP1, hD1⟩ := hB
    rw [ht] at hP1
    obtain ⟨hP, hD⟩ := va_join (wr := [oc h 0 [.ref h_kinds, .ref h_now, .ref h_fault, .ref h_tape, .int taped, .int reads, .ref h_got, .ref h_failing, .ref h_past, .int undoMany, .ref h_aside, .ref h_best, .ref h_tried, .ref h_kept, .ref h_keptPast, .int keptMany, .int isKept, .ref h_sheets], arf G h_sheets 7 4 shf]) (w1 := [oc h_sheets_x 8 [.ref h_sheets_x_r], ay G h_sheets_x_r rn rw]) hP hD [2, 3] [0, 1] rfl rfl (by decide) (by decide) hk1 hFc hP1 hD1
    clear hPc hDc hFc hP1 hD1 hz1 hk1 hvm
    generalize H1 = H at hP hS ⊢
    have hP : va_P G.1 gCl [oc h 0 [.ref h_kinds, .ref h_now, .ref h_fault, .ref h_tape, .int taped, .int reads, .ref h_got, .ref h_failing, .ref h_past, .int undoMany, .ref h_aside, .ref h_best, .ref h_tried, .ref h_kept, .ref h_keptPast, .int keptMany, .int isKept, .ref h_sheets], arf G h_sheets 7 4 shf, oc h_sheets_x 8 [.ref h_sheets_x_r], ay G h_sheets_x_r rn rw] H := hP
    have hD : va_D A [oc h 0 [.ref h_kinds, .ref h_now, .ref h_fault, .ref h_tape, .int taped, .int reads, .ref h_got, .ref h_failing, .ref h_past, .int undoMany, .ref h_aside, .ref h_best, .ref h_tried, .ref h_kept, .ref h_keptPast, .int keptMany, .int isKept, .ref h_sheets], arf G h_sheets 7 4 shf, oc h_sheets_x 8 [.ref h_sheets_x_r], ay G h_sheets_x_r rn rw] := hD
    refine lv_istore_n (lv' := [(2, .int r_5), (0, .ref h), (1, .int p1)]) hx hb dX0_drop_34 rfl hl (by decide) rfl (fun ls hl => ?_)
    refine lv_aload_n hx hb dX0_drop_35 rfl (lv_at hl 1 rfl) ?_
    refine va_get (D := G.1) (ci := 0) (v := .ref h_sheets) (C := RX0) (T := TX0) (N := 18) hx hb hts in_X0 hown hK.1 hP 0 rfl rfl 17 (by decide) (hts _ q273) (fun _ h9 => h9) rfl dX0_drop_36 ?_
    refine lv_iload_n hx hb dX0_drop_39 rfl (lv_at hl 2 rfl) ?_
    obtain ⟨i_6, hw⟩ := hw
    refine z_aaldS hx hb hK.1 hP 1 7 rfl rfl i_6 dX0_drop_40 hsh ?_
    refine lv_null hx hb dX0_drop_41 ?_
    refine va_putN (D := G.1) (ci := 8) (v := .null) (ty := (.object "java/lang/Object")) (C := RX8) (T := TX8) (N := 1) hx hb hts in_X8 tyX8 tyX8_ok nmX8 hown hK.1 hP hD hS 2 rfl rfl 0 (by decide) (hK.n q251 rfl) (fun _ h9 => h9) rfl (by decide +kernel) rfl rfl (Nat.le_of_ble_eq_true rfl) dX0_drop_42 (fun H locs hP hD hS => ?_)
    have hP : va_P G.1 gCl [oc h 0 [.ref h_kinds, .ref h_now, .ref h_fault, .ref h_tape, .int taped, .int reads, .ref h_got, .ref h_failing, .ref h_past, .int undoMany, .ref h_aside, .ref h_best, .ref h_tried, .ref h_kept, .ref h_keptPast, .int keptMany, .int isKept, .ref h_sheets], arf G h_sheets 7 4 shf, oc h_sheets_x 8 [.null], ay G h_sheets_x_r rn rw] H := hP
    have hD : va_D A [oc h 0 [.ref h_kinds, .ref h_now, .ref h_fault, .ref h_tape, .int taped, .int reads, .ref h_got, .ref h_failing, .ref h_past, .int undoMany, .ref h_aside, .ref h_best, .ref h_tried, .ref h_kept, .ref h_keptPast, .int keptMany, .int isKept, .ref h_sheets], arf G h_sheets 7 4 shf, oc h_sheets_x 8 [.null], ay G h_sheets_x_r rn rw] := hD
    refine lv_iload_n hx hb dX0_drop_45 rfl (lv_at hl 0 rfl) ?_
    have hP9 := hP
    have hD9 := hD
    exact W.iret (v := r_5) hx hb hr (fun t ht hW => ⟨⟨r_5, true, rfl, hw, by rw [ht]; exact hP9, hD9⟩, hS.F ht⟩) hS.2.2 dX0_drop_46
  · replace hw := hw.2 c_2
    refine lv_iconst (v := (-1 : Int32)) hx hb dX0_drop_8 (by decide) ?_
    have hP9 := hP
    have hD9 := hD
    exact W.iret (v := (-1 : Int32)) hx hb hr (fun t ht hW => ⟨⟨(-1 : Int32), false, rfl, hw, by rw [ht]; exact hP9, hD9⟩, hS.F ht⟩) hS.2.2 dX0_drop_9
/-! BattleBench.drop(I)I -/
def wp_X0_drop_S (rn : Nat) (rw : Nat → Int32) (p1 : Int32) (Q : Int32 → (Bool) → Prop) : Prop :=
  wp_X0_isSheet  p1 (0 : Int32) (fun r_1 => ((¬ (r_1 = 0) → (vp_in p1 4 ∧ (vp_in p1 4 ∧ wp_X8_size_S rn rw  (fun r_5 => (vp_in p1 4 ∧ Q r_5 true))))) ∧ ((r_1 = 0) → Q (-1 : Int32) false)))
set_option maxHeartbeats 4000000 in
theorem mt_X0_drop_S (l : Launch) (G : GT) (h h_kinds h_now h_fault h_tape h_got h_failing h_past h_aside h_best h_tried h_kept h_keptPast h_sheets h_sheets_x h_sheets_x_r : Nat) (shf : Nat → Option Nat) (sz : Nat) (taped : Int32) (reads : Int32) (undoMany : Int32) (keptMany : Int32) (isKept : Int32) (rn : Nat) (rw : Nat → Int32) (p1 : Int32)(hsh : shf p1.toNatClampNeg = some h_sheets_x) (Q : Int32 → (Bool) → Prop) (hw : wp_X0_drop_S rn rw p1 Q) : Met l yX0_drop (ws_ yX0_drop cX0_drop 3 (some .int)) ({ frames := 2, cells := 0, slots := 0, locals := 46 } : Room) (va_Pc [.ref h, .int p1] (fun U => U.heap.size = sz ∧ va_P G.1 gCl [oc h 0 [.ref h_kinds, .ref h_now, .ref h_fault, .ref h_tape, .int taped, .int reads, .ref h_got, .ref h_failing, .ref h_past, .int undoMany, .ref h_aside, .ref h_best, .ref h_tried, .ref h_kept, .ref h_keptPast, .int keptMany, .int isKept, .ref h_sheets], arf G h_sheets 7 4 shf, oc h_sheets_x 8 [.ref h_sheets_x_r], ah G h_sheets_x_r rn rw] U.heap ∧ gK G U ∧ va_D (fun _ => True) [oc h 0 [.ref h_kinds, .ref h_now, .ref h_fault, .ref h_tape, .int taped, .int reads, .ref h_got, .ref h_failing, .ref h_past, .int undoMany, .ref h_aside, .ref h_best, .ref h_tried, .ref h_kept, .ref h_keptPast, .int keptMany, .int isKept, .ref h_sheets], arf G h_sheets 7 4 shf, oc h_sheets_x 8 [.ref h_sheets_x_r], ah G h_sheets_x_r rn rw])) ((fun A => (va_Qi (fun (r : Int32) (u : Bool) => Q r u) (fun u t => va_P G.1 gCl [oc h 0 [.ref h_kinds, .ref h_now, .ref h_fault, .ref h_tape, .int taped, .int reads, .ref h_got, .ref h_failing, .ref h_past, .int undoMany, .ref h_aside, .ref h_best, .ref h_tried, .ref h_kept, .ref h_keptPast, .int keptMany, .int isKept, .ref h_sheets], arf G h_sheets 7 4 shf, oc h_sheets_x 8 [(rfd u h_sheets_x_r)], ah G h_sheets_x_r rn rw] t.heap ∧ va_D A [oc h 0 [.ref h_kinds, .ref h_now, .ref h_fault, .ref h_tape, .int taped, .int reads, .ref h_got, .ref h_failing, .ref h_past, .int undoMany, .ref h_aside, .ref h_best, .ref h_tried, .ref h_kept, .ref h_keptPast, .int keptMany, .int isKept, .ref h_sheets], arf G h_sheets 7 4 shf, oc h_sheets_x 8 [(rfd u h_sheets_x_r)], ah G h_sheets_x_r rn rw]) A)) (va_A [oc h 0 [.ref h_kinds, .ref h_now, .ref h_fault, .ref h_tape, .int taped, .int reads, .ref h_got, .ref h_failing, .ref h_past, .int undoMany, .ref h_aside, .ref h_best, .ref h_tried, .ref h_kept, .ref h_keptPast, .int keptMany, .int isKept, .ref h_sheets], arf G h_sheets 7 4 shf, oc h_sheets_x 8 [.ref h_sheets_x_r], ah G h_sheets_x_r rn rw] sz)) 0 0 (va_A [oc h 0 [.ref h_kinds, .ref h_now, .ref h_fault, .ref h_tape, .int taped, .int reads, .ref h_got, .ref h_failing, .ref h_past, .int undoMany, .ref h_aside, .ref h_best, .ref h_tried, .ref h_kept, .ref h_keptPast, .int keptMany, .int isKept, .ref h_sheets], arf G h_sheets 7 4 shf, oc h_sheets_x 8 [.ref h_sheets_x_r], ah G h_sheets_x_r rn rw] sz) := by
  refine Met.ofW (cc := cX0_drop) (maxL := 3) (ret := (some .int)) (by decide) rfl ?_
  intro p e s m args below meth c s₁ B hml hv
  obtain ⟨rfl, hsz, hP, hK, hD0⟩ := hv
  have hx := B.exec
  have hb := B.bytes
  have hr := B.returns
  have hts := atoms_spec (ws := (ws_ yX0_drop cX0_drop 3 (some .int))) B.pre
  have hts : ∀ w ∈ lw_all, w.before _ s = true := fun w h => hts w (List.mem_cons_of_mem _ h)
  have hown : s.vm.findClass RX0 = some m.cls := findClass_of_methodNamed B.named
  have hlocks := B.notSynchronized
  subst hsz
  have hD := hD0.self (sz := s.heap.size)
  generalize hAe : va_A [oc h 0 [.ref h_kinds, .ref h_now, .ref h_fault, .ref h_tape, .int taped, .int reads, .ref h_got, .ref h_failing, .ref h_past, .int undoMany, .ref h_aside, .ref h_best, .ref h_tried, .ref h_kept, .ref h_keptPast, .int keptMany, .int isKept, .ref h_sheets], arf G h_sheets 7 4 shf, oc h_sheets_x 8 [.ref h_sheets_x_r], ah G h_sheets_x_r rn rw] s.heap.size = A at hD ⊢
  have hA : ∀ q : Nat, s.heap.size ≤ q → A q := fun q h => by rw [← hAe]; exact Or.inr h
  have hS : va_S A s.heap s.heap [] := va_S.rf
  have C : Cx p s m meth c cX0_drop 3 (some .int) RX0 ([.ref h, .int p1] : List Value).toArray G A := ⟨hx, hb, hr, hlocks, hml, hown, hts, hK, hA⟩
  have hl := lv_entry ([.ref h, .int p1]) (n := 3) (Nat.le_of_ble_eq_true rfl)
  rw [lg_entry_eq]
  generalize (lg_sl ([.ref h, .int p1]) ++ List.replicate (3 - (lg_sl ([.ref h, .int p1])).length) Slot.unset).toArray = ls at hl ⊢
  have hl : lv_has ls 3 [(0, .ref h), (1, .int p1)] := hl
  unfold wp_X0_drop_S at hw
  refine lv_iload_n hx hb dX0_drop_0 rfl (lv_at hl 1 rfl) ?_
  refine lv_iconst (v := (0 : Int32)) hx hb dX0_drop_1 (by decide) ?_
  have hPc := hP.sub (ws' := []) [] rfl
  have hDc := hD.sub (ws' := []) [] (by decide) rfl
  have hFc := va_free (wc := []) hD hS hA [] rfl
  refine va_calli (va_runS (As := [.int p1, .int (0 : Int32)]) (rest := []) ⟨hx, hb, hml, hown, hts⟩ (mt_X0_isSheet l G  s.heap.size  p1 (0 : Int32) _ hw) (va_cwS 2 hts (lw_S q648 q649 q54 q650) rfl rfl rfl (by decide +kernel) ⟨Nat.le_of_ble_eq_true rfl, Nat.le_of_ble_eq_true rfl⟩) ⟨fun a U g mk q => by obtain ⟨q0, q1, qP, qK, qD⟩ := q; exact ⟨q0, q1, qP, qK.call, qD⟩, fun U hU hW => ⟨rfl, by rw [hU], by rw [hU]; exact hPc, hK.warm hW, hDc.weaken (fun _ _ _ _ => trivial)⟩⟩ rfl rfl hl.1 rfl (lv_room (Nat.le_of_ble_eq_true rfl)) dX0_drop_2 ⟨Nat.le_of_ble_eq_true rfl, Nat.le_of_ble_eq_true rfl⟩) hS (fun q _ h => hFc q h) hFc (fun r_1 _ t H1 locs ht hvm hw hB hz1 hk1 hS => ?_)
  obtain ⟨hP1, hD1⟩ := hB
  rw [ht] at hP1
  obtain ⟨hP, hD⟩ := va_join (wr := [oc h 0 [.ref h_kinds, .ref h_now, .ref h_fault, .ref h_tape, .int taped, .int reads, .ref h_got, .ref h_failing, .ref h_past, .int undoMany, .ref h_aside, .ref h_best, .ref h_tried, .ref h_kept, .ref h_keptPast, .int keptMany, .int isKept, .ref h_sheets], arf G h_sheets 7 4 shf, oc h_sheets_x 8 [.ref h_sheets_x_r], ah G h_sheets_x_r rn rw]) (w1 := []) hP hD [] [0, 1, 2, 3] rfl rfl (by decide) (by decide) hk1 hFc hP1 hD1
  clear hPc hDc hFc hP1 hD1 hz1 hk1 hvm
  generalize H1 = H at hP hS ⊢
  have hP : va_P G.1 gCl [oc h 0 [.ref h_kinds, .ref h_now, .ref h_fault, .ref h_tape, .int taped, .int reads, .ref h_got, .ref h_failing, .ref h_past, .int undoMany, .ref h_aside, .ref h_best, .ref h_tried, .ref h_kept, .ref h_keptPast, .int keptMany, .int isKept, .ref h_sheets], arf G h_sheets 7 4 shf, oc h_sheets_x 8 [.ref h_sheets_x_r], ah G h_sheets_x_r rn rw] H := hP
  have hD : va_D A [oc h 0 [.ref h_kinds, .ref h_now, .ref h_fault, .ref h_tape, .int taped, .int reads, .ref h_got, .ref h_failing, .ref h_past, .int undoMany, .ref h_aside, .ref h_best, .ref h_tried, .ref h_kept, .ref h_keptPast, .int keptMany, .int isKept, .ref h_sheets], arf G h_sheets 7 4 shf, oc h_sheets_x 8 [.ref h_sheets_x_r], ah G h_sheets_x_r rn rw] := hD
  refine lv_if_ne (tgt := 10) hx hb dX0_drop_5 (by decide) (fun c_2 => ?_) (fun c_2 => ?_)
  · replace hw := hw.1 c_2
    refine lv_aload_n hx hb dX0_drop_10 rfl (lv_at hl 0 rfl) ?_
    refine va_get (D := G.1) (ci := 0) (v := .ref h_sheets) (C := RX0) (T := TX0) (N := 18) hx hb hts in_X0 hown hK.1 hP 0 rfl rfl 17 (by decide) (hts _ q273) (fun _ h9 => h9) rfl dX0_drop_11 ?_
    refine lv_iload_n hx hb dX0_drop_14 rfl (lv_at hl 1 rfl) ?_
    obtain ⟨i_3, hw⟩ := hw
    refine z_aaldS hx hb hK.1 hP 1 7 rfl rfl i_3 dX0_drop_15 hsh ?_
    refine va_getN (D := G.1) (ci := 8) (v := .ref h_sheets_x_r) (C := RX8) (T := TX8) (N := 1) hx hb hts in_X8 hown hK.1 hP 2 rfl rfl 0 (by decide) (hK.n q251 rfl) (fun _ h9 => h9) rfl dX0_drop_16 ?_
    refine lv_ifnonnull (tgt := 25) hx hb dX0_drop_19 (by decide) ?_
    refine lv_aload_n hx hb dX0_drop_25 rfl (lv_at hl 0 rfl) ?_
    refine va_get (D := G.1) (ci := 0) (v := .ref h_sheets) (C := RX0) (T := TX0) (N := 18) hx hb hts in_X0 hown hK.1 hP 0 rfl rfl 17 (by decide) (hts _ q273) (fun _ h9 => h9) rfl dX0_drop_26 ?_
    refine lv_iload_n hx hb dX0_drop_29 rfl (lv_at hl 1 rfl) ?_
    obtain ⟨i_4, hw⟩ := hw
    refine z_aaldS hx hb hK.1 hP 1 7 rfl rfl i_4 dX0_drop_30 hsh ?_
    have hPc := hP.sub (ws' := [oc h_sheets_x 8 [.ref h_sheets_x_r], ah G h_sheets_x_r rn rw]) [2, 3] rfl
    have hDc := hD.sub (ws' := [oc h_sheets_x 8 [.ref h_sheets_x_r], ah G h_sheets_x_r rn rw]) [2, 3] (by decide) rfl
    have hFc := va_free (wc := [oc h_sheets_x 8 [.ref h_sheets_x_r], ah G h_sheets_x_r rn rw]) hD hS hA [2, 3] rfl
    refine va_calli (va_runV (As := []) (rest := []) ⟨hx, hb, hml, hown, hts⟩ (mt_X8_size_S l G h_sheets_x h_sheets_x_r H.size rn rw  _ hw) (cwV 0 hts (lw_V q664 q665 q666 q64 q667) rfl rfl rfl (by decide +kernel) ⟨Nat.le_of_ble_eq_true rfl, Nat.le_of_ble_eq_true rfl⟩) ⟨fun a U g mk q => by obtain ⟨q0, q1, qP, qK, qD⟩ := q; exact ⟨q0, q1, qP, qK.call, qD⟩, va_recv hK.1 hP (ci := 8) (q0 := 2) rfl rfl, fun U hU hW => ⟨rfl, by rw [hU], by rw [hU]; exact hPc, hK.warm hW, hDc.weaken (fun _ _ _ _ => trivial)⟩⟩ rfl rfl hl.1 rfl (lv_room (Nat.le_of_ble_eq_true rfl)) dX0_drop_31 ⟨Nat.le_of_ble_eq_true rfl, Nat.le_of_ble_eq_true rfl⟩) hS (fun q _ h => hFc q h) hFc (fun r_5 _ t H1 locs ht hvm hw hB hz1 hk1 hS => ?_)
    obtain ⟨hP1, hD1⟩ := hB
    rw [ht] at hP1
    obtain ⟨hP, hD⟩ := va_join (wr := [oc h 0 [.ref h_kinds, .ref h_now, .ref h_fault, .ref h_tape, .int taped, .int reads, .ref h_got, .ref h_failing, .ref h_past, .int undoMany, .ref h_aside, .ref h_best, .ref h_tried, .ref h_kept, .ref h_keptPast, .int keptMany, .int isKept, .ref h_sheets], arf G h_sheets 7 4 shf]) (w1 := [oc h_sheets_x 8 [.ref h_sheets_x_r], ah G h_sheets_x_r rn rw]) hP hD [2, 3] [0, 1] rfl rfl (by decide) (by decide) hk1 hFc hP1 hD1
    clear hPc hDc hFc hP1 hD1 hz1 hk1 hvm
    generalize H1 = H at hP hS ⊢
    have hP : va_P G.1 gCl [oc h 0 [.ref h_kinds, .ref h_now, .ref h_fault, .ref h_tape, .int taped, .int reads, .ref h_got, .ref h_failing, .ref h_past, .int undoMany, .ref h_aside, .ref h_best, .ref h_tried, .ref h_kept, .ref h_keptPast, .int keptMany, .int isKept, .ref h_sheets], arf G h_sheets 7 4 shf, oc h_sheets_x 8 [.ref h_sheets_x_r], ah G h_sheets_x_r rn rw] H := hP
    have hD : va_D A [oc h 0 [.ref h_kinds, .ref h_now, .ref h_fault, .ref h_tape, .int taped, .int reads, .ref h_got, .ref h_failing, .ref h_past, .int undoMany, .ref h_aside, .ref h_best, .ref h_tried, .ref h_kept, .ref h_keptPast, .int keptMany, .int isKept, .ref h_sheets], arf G h_sheets 7 4 shf, oc h_sheets_x 8 [.ref h_sheets_x_r], ah G h_sheets_x_r rn rw] := hD
    refine lv_istore_n (lv' := [(2, .int r_5), (0, .ref h), (1, .int p1)]) hx hb dX0_drop_34 rfl hl (by decide) rfl (fun ls hl => ?_)
    refine lv_aload_n hx hb dX0_drop_35 rfl (lv_at hl 1 rfl) ?_
    refine va_get (D := G.1) (ci := 0) (v := .ref h_sheets) (C := RX0) (T := TX0) (N := 18) hx hb hts in_X0 hown hK.1 hP 0 rfl rfl 17 (by decide) (hts _ q273) (fun _ h9 => h9) rfl dX0_drop_36 ?_
    refine lv_iload_n hx hb dX0_drop_39 rfl (lv_at hl 2 rfl) ?_
    obtain ⟨i_6, hw⟩ := hw
    refine z_aaldS hx hb hK.1 hP 1 7 rfl rfl i_6 dX0_drop_40 hsh ?_
    refine lv_null hx hb dX0_drop_41 ?_
    refine va_putN (D := G.1) (ci := 8) (v := .null) (ty := (.object "java/lang/Object")) (C := RX8) (T := TX8) (N := 1) hx hb hts in_X8 tyX8 tyX8_ok nmX8 hown hK.1 hP hD hS 2 rfl rfl 0 (by decide) (hK.n q251 rfl) (fun _ h9 => h9) rfl (by decide +kernel) rfl rfl (Nat.le_of_ble_eq_true rfl) dX0_drop_42 (fun H locs hP hD hS => ?_)
    have hP : va_P G.1 gCl [oc h 0 [.ref h_kinds, .ref h_now, .ref h_fault, .ref h_tape, .int taped, .int reads, .ref h_got, .ref h_failing, .ref h_past, .int undoMany, .ref h_aside, .ref h_best, .ref h_tried, .ref h_kept, .ref h_keptPast, .int keptMany, .int isKept, .ref h_sheets], arf G h_sheets 7 4 shf, oc h_sheets_x 8 [.null], ah G h_sheets_x_r rn rw] H := hP
    have hD : va_D A [oc h 0 [.ref h_kinds, .ref h_now, .ref h_fault, .ref h_tape, .int taped, .int reads, .ref h_got, .ref h_failing, .ref h_past, .int undoMany, .ref h_aside, .ref h_best, .ref h_tried, .ref h_kept, .ref h_keptPast, .int keptMany, .int isKept, .ref h_sheets], arf G h_sheets 7 4 shf, oc h_sheets_x 8 [.null], ah G h_sheets_x_r rn rw] := hD
    refine lv_iload_n hx hb dX0_drop_45 rfl (lv_at hl 0 rfl) ?_
    have hP9 := hP
    have hD9 := hD
    exact W.iret (v := r_5) hx hb hr (fun t ht hW => ⟨⟨r_5, true, rfl, hw, by rw [ht]; exact hP9, hD9⟩, hS.F ht⟩) hS.2.2 dX0_drop_46
  · replace hw := hw.2 c_2
    refine lv_iconst (v := (-1 : Int32)) hx hb dX0_drop_8 (by decide) ?_
    have hP9 := hP
    have hD9 := hD
    exact W.iret (v := (-1 : Int32)) hx hb hr (fun t ht hW => ⟨⟨(-1 : Int32), false, rfl, hw, by rw [ht]; exact hP9, hD9⟩, hS.F ht⟩) hS.2.2 dX0_drop_9
/-! BattleBench.drop(I)I -/
def wp_X0_drop_I (rn : Nat) (rw : Nat → Int32) (p1 : Int32) (Q : Int32 → (Bool) → Prop) : Prop :=
  wp_X0_isSheet  p1 (0 : Int32) (fun r_1 => ((¬ (r_1 = 0) → (vp_in p1 4 ∧ (vp_in p1 4 ∧ wp_X8_size_I rn rw  (fun r_5 => (vp_in p1 4 ∧ Q r_5 true))))) ∧ ((r_1 = 0) → Q (-1 : Int32) false)))
set_option maxHeartbeats 4000000 in
theorem mt_X0_drop_I (l : Launch) (G : GT) (h h_kinds h_now h_fault h_tape h_got h_failing h_past h_aside h_best h_tried h_kept h_keptPast h_sheets h_sheets_x h_sheets_x_r : Nat) (shf : Nat → Option Nat) (sz : Nat) (taped : Int32) (reads : Int32) (undoMany : Int32) (keptMany : Int32) (isKept : Int32) (rn : Nat) (rw : Nat → Int32) (p1 : Int32)(hsh : shf p1.toNatClampNeg = some h_sheets_x) (Q : Int32 → (Bool) → Prop) (hw : wp_X0_drop_I rn rw p1 Q) : Met l yX0_drop (ws_ yX0_drop cX0_drop 3 (some .int)) ({ frames := 2, cells := 0, slots := 0, locals := 46 } : Room) (va_Pc [.ref h, .int p1] (fun U => U.heap.size = sz ∧ va_P G.1 gCl [oc h 0 [.ref h_kinds, .ref h_now, .ref h_fault, .ref h_tape, .int taped, .int reads, .ref h_got, .ref h_failing, .ref h_past, .int undoMany, .ref h_aside, .ref h_best, .ref h_tried, .ref h_kept, .ref h_keptPast, .int keptMany, .int isKept, .ref h_sheets], arf G h_sheets 7 4 shf, oc h_sheets_x 8 [.ref h_sheets_x_r], ai G h_sheets_x_r rn rw] U.heap ∧ gK G U ∧ va_D (fun _ => True) [oc h 0 [.ref h_kinds, .ref h_now, .ref h_fault, .ref h_tape, .int taped, .int reads, .ref h_got, .ref h_failing, .ref h_past, .int undoMany, .ref h_aside, .ref h_best, .ref h_tried, .ref h_kept, .ref h_keptPast, .int keptMany, .int isKept, .ref h_sheets], arf G h_sheets 7 4 shf, oc h_sheets_x 8 [.ref h_sheets_x_r], ai G h_sheets_x_r rn rw])) ((fun A => (va_Qi (fun (r : Int32) (u : Bool) => Q r u) (fun u t => va_P G.1 gCl [oc h 0 [.ref h_kinds, .ref h_now, .ref h_fault, .ref h_tape, .int taped, .int reads, .ref h_got, .ref h_failing, .ref h_past, .int undoMany, .ref h_aside, .ref h_best, .ref h_tried, .ref h_kept, .ref h_keptPast, .int keptMany, .int isKept, .ref h_sheets], arf G h_sheets 7 4 shf, oc h_sheets_x 8 [(rfd u h_sheets_x_r)], ai G h_sheets_x_r rn rw] t.heap ∧ va_D A [oc h 0 [.ref h_kinds, .ref h_now, .ref h_fault, .ref h_tape, .int taped, .int reads, .ref h_got, .ref h_failing, .ref h_past, .int undoMany, .ref h_aside, .ref h_best, .ref h_tried, .ref h_kept, .ref h_keptPast, .int keptMany, .int isKept, .ref h_sheets], arf G h_sheets 7 4 shf, oc h_sheets_x 8 [(rfd u h_sheets_x_r)], ai G h_sheets_x_r rn rw]) A)) (va_A [oc h 0 [.ref h_kinds, .ref h_now, .ref h_fault, .ref h_tape, .int taped, .int reads, .ref h_got, .ref h_failing, .ref h_past, .int undoMany, .ref h_aside, .ref h_best, .ref h_tried, .ref h_kept, .ref h_keptPast, .int keptMany, .int isKept, .ref h_sheets], arf G h_sheets 7 4 shf, oc h_sheets_x 8 [.ref h_sheets_x_r], ai G h_sheets_x_r rn rw] sz)) 0 0 (va_A [oc h 0 [.ref h_kinds, .ref h_now, .ref h_fault, .ref h_tape, .int taped, .int reads, .ref h_got, .ref h_failing, .ref h_past, .int undoMany, .ref h_aside, .ref h_best, .ref h_tried, .ref h_kept, .ref h_keptPast, .int keptMany, .int isKept, .ref h_sheets], arf G h_sheets 7 4 shf, oc h_sheets_x 8 [.ref h_sheets_x_r], ai G h_sheets_x_r rn rw] sz) := by
  refine Met.ofW (cc := cX0_drop) (maxL := 3) (ret := (some .int)) (by decide) rfl ?_
  intro p e s m args below meth c s₁ B hml hv
  obtain ⟨rfl, hsz, hP, hK, hD0⟩ := hv
  have hx := B.exec
  have hb := B.bytes
  have hr := B.returns
  have hts := atoms_spec (ws := (ws_ yX0_drop cX0_drop 3 (some .int))) B.pre
  have hts : ∀ w ∈ lw_all, w.before _ s = true := fun w h => hts w (List.mem_cons_of_mem _ h)
  have hown : s.vm.findClass RX0 = some m.cls := findClass_of_methodNamed B.named
  have hlocks := B.notSynchronized
  subst hsz
  have hD := hD0.self (sz := s.heap.size)
  generalize hAe : va_A [oc h 0 [.ref h_kinds, .ref h_now, .ref h_fault, .ref h_tape, .int taped, .int reads, .ref h_got, .ref h_failing, .ref h_past, .int undoMany, .ref h_aside, .ref h_best, .ref h_tried, .ref h_kept, .ref h_keptPast, .int keptMany, .int isKept, .ref h_sheets], arf G h_sheets 7 4 shf, oc h_sheets_x 8 [.ref h_sheets_x_r], ai G h_sheets_x_r rn rw] s.heap.size = A at hD ⊢
  have hA : ∀ q : Nat, s.heap.size ≤ q → A q := fun q h => by rw [← hAe]; exact Or.inr h
  have hS : va_S A s.heap s.heap [] := va_S.rf
  have C : Cx p s m meth c cX0_drop 3 (some .int) RX0 ([.ref h, .int p1] : List Value).toArray G A := ⟨hx, hb, hr, hlocks, hml, hown, hts, hK, hA⟩
  have hl := lv_entry ([.ref h, .int p1]) (n := 3) (Nat.le_of_ble_eq_true rfl)
  rw [lg_entry_eq]
  generalize (lg_sl ([.ref h, .int p1]) ++ List.replicate (3 - (lg_sl ([.ref h, .int p1])).length) Slot.unset).toArray = ls at hl ⊢
  have hl : lv_has ls 3 [(0, .ref h), (1, .int p1)] := hl
  unfold wp_X0_drop_I at hw
  refine lv_iload_n hx hb dX0_drop_0 rfl (lv_at hl 1 rfl) ?_
  refine lv_iconst (v := (0 : Int32)) hx hb dX0_drop_1 (by decide) ?_
  have hPc := hP.sub (ws' := []) [] rfl
  have hDc := hD.sub (ws' := []) [] (by decide) rfl
  have hFc := va_free (wc := []) hD hS hA [] rfl
  refine va_calli (va_runS (As := [.int p1, .int (0 : Int32)]) (rest := []) ⟨hx, hb, hml, hown, hts⟩ (mt_X0_isSheet l G  s.heap.size  p1 (0 : Int32) _ hw) (va_cwS 2 hts (lw_S q648 q649 q54 q650) rfl rfl rfl (by decide +kernel) ⟨Nat.le_of_ble_eq_true rfl, Nat.le_of_ble_eq_true rfl⟩) ⟨fun a U g mk q => by obtain ⟨q0, q1, qP, qK, qD⟩ := q; exact ⟨q0, q1, qP, qK.call, qD⟩, fun U hU hW => ⟨rfl, by rw [hU], by rw [hU]; exact hPc, hK.warm hW, hDc.weaken (fun _ _ _ _ => trivial)⟩⟩ rfl rfl hl.1 rfl (lv_room (Nat.le_of_ble_eq_true rfl)) dX0_drop_2 ⟨Nat.le_of_ble_eq_true rfl, Nat.le_of_ble_eq_true rfl⟩) hS (fun q _ h => hFc q h) hFc (fun r_1 _ t H1 locs ht hvm hw hB hz1 hk1 hS => ?_)
  obtain ⟨hP1, hD1⟩ := hB
  rw [ht] at hP1
  obtain ⟨hP, hD⟩ := va_join (wr := [oc h 0 [.ref h_kinds, .ref h_now, .ref h_fault, .ref h_tape, .int taped, .int reads, .ref h_got, .ref h_failing, .ref h_past, .int undoMany, .ref h_aside, .ref h_best, .ref h_tried, .ref h_kept, .ref h_keptPast, .int keptMany, .int isKept, .ref h_sheets], arf G h_sheets 7 4 shf, oc h_sheets_x 8 [.ref h_sheets_x_r], ai G h_sheets_x_r rn rw]) (w1 := []) hP hD [] [0, 1, 2, 3] rfl rfl (by decide) (by decide) hk1 hFc hP1 hD1
  clear hPc hDc hFc hP1 hD1 hz1 hk1 hvm
  generalize H1 = H at hP hS ⊢
  have hP : va_P G.1 gCl [oc h 0 [.ref h_kinds, .ref h_now, .ref h_fault, .ref h_tape, .int taped, .int reads, .ref h_got, .ref h_failing, .ref h_past, .int undoMany, .ref h_aside, .ref h_best, .ref h_tried, .ref h_kept, .ref h_keptPast, .int keptMany, .int isKept, .ref h_sheets], arf G h_sheets 7 4 shf, oc h_sheets_x 8 [.ref h_sheets_x_r], ai G h_sheets_x_r rn rw] H := hP
  have hD : va_D A [oc h 0 [.ref h_kinds, .ref h_now, .ref h_fault, .ref h_tape, .int taped, .int reads, .ref h_got, .ref h_failing, .ref h_past, .int undoMany, .ref h_aside, .ref h_best, .ref h_tried, .ref h_kept, .ref h_keptPast, .int keptMany, .int isKept, .ref h_sheets], arf G h_sheets 7 4 shf, oc h_sheets_x 8 [.ref h_sheets_x_r], ai G h_sheets_x_r rn rw] := hD
  refine lv_if_ne (tgt := 10) hx hb dX0_drop_5 (by decide) (fun c_2 => ?_) (fun c_2 => ?_)
  · replace hw := hw.1 c_2
    refine lv_aload_n hx hb dX0_drop_10 rfl (lv_at hl 0 rfl) ?_
    refine va_get (D := G.1) (ci := 0) (v := .ref h_sheets) (C := RX0) (T := TX0) (N := 18) hx hb hts in_X0 hown hK.1 hP 0 rfl rfl 17 (by decide) (hts _ q273) (fun _ h9 => h9) rfl dX0_drop_11 ?_
    refine lv_iload_n hx hb dX0_drop_14 rfl (lv_at hl 1 rfl) ?_
    obtain ⟨i_3, hw⟩ := hw
    refine z_aaldS hx hb hK.1 hP 1 7 rfl rfl i_3 dX0_drop_15 hsh ?_
    refine va_getN (D := G.1) (ci := 8) (v := .ref h_sheets_x_r) (C := RX8) (T := TX8) (N := 1) hx hb hts in_X8 hown hK.1 hP 2 rfl rfl 0 (by decide) (hK.n q251 rfl) (fun _ h9 => h9) rfl dX0_drop_16 ?_
    refine lv_ifnonnull (tgt := 25) hx hb dX0_drop_19 (by decide) ?_
    refine lv_aload_n hx hb dX0_drop_25 rfl (lv_at hl 0 rfl) ?_
    refine va_get (D := G.1) (ci := 0) (v := .ref h_sheets) (C := RX0) (T := TX0) (N := 18) hx hb hts in_X0 hown hK.1 hP 0 rfl rfl 17 (by decide) (hts _ q273) (fun _ h9 => h9) rfl dX0_drop_26 ?_
    refine lv_iload_n hx hb dX0_drop_29 rfl (lv_at hl 1 rfl) ?_
    obtain ⟨i_4, hw⟩ := hw
    refine z_aaldS hx hb hK.1 hP 1 7 rfl rfl i_4 dX0_drop_30 hsh ?_
    have hPc := hP.sub (ws' := [oc h_sheets_x 8 [.ref h_sheets_x_r], ai G h_sheets_x_r rn rw]) [2, 3] rfl
    have hDc := hD.sub (ws' := [oc h_sheets_x 8 [.ref h_sheets_x_r], ai G h_sheets_x_r rn rw]) [2, 3] (by decide) rfl
    have hFc := va_free (wc := [oc h_sheets_x 8 [.ref h_sheets_x_r], ai G h_sheets_x_r rn rw]) hD hS hA [2, 3] rfl
    refine va_calli (va_runV (As := []) (rest := []) ⟨hx, hb, hml, hown, hts⟩ (mt_X8_size_I l G h_sheets_x h_sheets_x_r H.size rn rw  _ hw) (cwV 0 hts (lw_V q664 q665 q666 q64 q667) rfl rfl rfl (by decide +kernel) ⟨Nat.le_of_ble_eq_true rfl, Nat.le_of_ble_eq_true rfl⟩) ⟨fun a U g mk q => by obtain ⟨q0, q1, qP, qK, qD⟩ := q; exact ⟨q0, q1, qP, qK.call, qD⟩, va_recv hK.1 hP (ci := 8) (q0 := 2) rfl rfl, fun U hU hW => ⟨rfl, by rw [hU], by rw [hU]; exact hPc, hK.warm hW, hDc.weaken (fun _ _ _ _ => trivial)⟩⟩ rfl rfl hl.1 rfl (lv_room (Nat.le_of_ble_eq_true rfl)) dX0_drop_31 ⟨Nat.le_of_ble_eq_true rfl, Nat.le_of_ble_eq_true rfl⟩) hS (fun q _ h => hFc q h) hFc (fun r_5 _ t H1 locs ht hvm hw hB hz1 hk1 hS => ?_)
    obtain ⟨hP1, hD1⟩ := hB
    rw [ht] at hP1
    obtain ⟨hP, hD⟩ := va_join (wr := [oc h 0 [.ref h_kinds, .ref h_now, .ref h_fault, .ref h_tape, .int taped, .int reads, .ref h_got, .ref h_failing, .ref h_past, .int undoMany, .ref h_aside, .ref h_best, .ref h_tried, .ref h_kept, .ref h_keptPast, .int keptMany, .int isKept, .ref h_sheets], arf G h_sheets 7 4 shf]) (w1 := [oc h_sheets_x 8 [.ref h_sheets_x_r], ai G h_sheets_x_r rn rw]) hP hD [2, 3] [0, 1] rfl rfl (by decide) (by decide) hk1 hFc hP1 hD1
    clear hPc hDc hFc hP1 hD1 hz1 hk1 hvm
    generalize H1 = H at hP hS ⊢
    have hP : va_P G.1 gCl [oc h 0 [.ref h_kinds, .ref h_now, .ref h_fault, .ref h_tape, .int taped, .int reads, .ref h_got, .ref h_failing, .ref h_past, .int undoMany, .ref h_aside, .ref h_best, .ref h_tried, .ref h_kept, .ref h_keptPast, .int keptMany, .int isKept, .ref h_sheets], arf G h_sheets 7 4 shf, oc h_sheets_x 8 [.ref h_sheets_x_r], ai G h_sheets_x_r rn rw] H := hP
    have hD : va_D A [oc h 0 [.ref h_kinds, .ref h_now, .ref h_fault, .ref h_tape, .int taped, .int reads, .ref h_got, .ref h_failing, .ref h_past, .int undoMany, .ref h_aside, .ref h_best, .ref h_tried, .ref h_kept, .ref h_keptPast, .int keptMany, .int isKept, .ref h_sheets], arf G h_sheets 7 4 shf, oc h_sheets_x 8 [.ref h_sheets_x_r], ai G h_sheets_x_r rn rw] := hD
    refine lv_istore_n (lv' := [(2, .int r_5), (0, .ref h), (1, .int p1)]) hx hb dX0_drop_34 rfl hl (by decide) rfl (fun ls hl => ?_)
    refine lv_aload_n hx hb dX0_drop_35 rfl (lv_at hl 1 rfl) ?_
    refine va_get (D := G.1) (ci := 0) (v := .ref h_sheets) (C := RX0) (T := TX0) (N := 18) hx hb hts in_X0 hown hK.1 hP 0 rfl rfl 17 (by decide) (hts _ q273) (fun _ h9 => h9) rfl dX0_drop_36 ?_
    refine lv_iload_n hx hb dX0_drop_39 rfl (lv_at hl 2 rfl) ?_
    obtain ⟨i_6, hw⟩ := hw
    refine z_aaldS hx hb hK.1 hP 1 7 rfl rfl i_6 dX0_drop_40 hsh ?_
    refine lv_null hx hb dX0_drop_41 ?_
    refine va_putN (D := G.1) (ci := 8) (v := .null) (ty := (.object "java/lang/Object")) (C := RX8) (T := TX8) (N := 1) hx hb hts in_X8 tyX8 tyX8_ok nmX8 hown hK.1 hP hD hS 2 rfl rfl 0 (by decide) (hK.n q251 rfl) (fun _ h9 => h9) rfl (by decide +kernel) rfl rfl (Nat.le_of_ble_eq_true rfl) dX0_drop_42 (fun H locs hP hD hS => ?_)
    have hP : va_P G.1 gCl [oc h 0 [.ref h_kinds, .ref h_now, .ref h_fault, .ref h_tape, .int taped, .int reads, .ref h_got, .ref h_failing, .ref h_past, .int undoMany, .ref h_aside, .ref h_best, .ref h_tried, .ref h_kept, .ref h_keptPast, .int keptMany, .int isKept, .ref h_sheets], arf G h_sheets 7 4 shf, oc h_sheets_x 8 [.null], ai G h_sheets_x_r rn rw] H := hP
    have hD : va_D A [oc h 0 [.ref h_kinds, .ref h_now, .ref h_fault, .ref h_tape, .int taped, .int reads, .ref h_got, .ref h_failing, .ref h_past, .int undoMany, .ref h_aside, .ref h_best, .ref h_tried, .ref h_kept, .ref h_keptPast, .int keptMany, .int isKept, .ref h_sheets], arf G h_sheets 7 4 shf, oc h_sheets_x 8 [.null], ai G h_sheets_x_r rn rw] := hD
    refine lv_iload_n hx hb dX0_drop_45 rfl (lv_at hl 0 rfl) ?_
    have hP9 := hP
    have hD9 := hD
    exact W.iret (v := r_5) hx hb hr (fun t ht hW => ⟨⟨r_5, true, rfl, hw, by rw [ht]; exact hP9, hD9⟩, hS.F ht⟩) hS.2.2 dX0_drop_46
  · replace hw := hw.2 c_2
    refine lv_iconst (v := (-1 : Int32)) hx hb dX0_drop_8 (by decide) ?_
    have hP9 := hP
    have hD9 := hD
    exact W.iret (v := (-1 : Int32)) hx hb hr (fun t ht hW => ⟨⟨(-1 : Int32), false, rfl, hw, by rw [ht]; exact hP9, hD9⟩, hS.F ht⟩) hS.2.2 dX0_drop_9
/-! BattleBench.drop(I)I -/
def wp_X0_drop_J (rn : Nat) (rw : Nat → Int64) (p1 : Int32) (Q : Int32 → (Bool) → Prop) : Prop :=
  wp_X0_isSheet  p1 (0 : Int32) (fun r_1 => ((¬ (r_1 = 0) → (vp_in p1 4 ∧ (vp_in p1 4 ∧ wp_X8_size_J rn rw  (fun r_5 => (vp_in p1 4 ∧ Q r_5 true))))) ∧ ((r_1 = 0) → Q (-1 : Int32) false)))
set_option maxHeartbeats 4000000 in
theorem mt_X0_drop_J (l : Launch) (G : GT) (h h_kinds h_now h_fault h_tape h_got h_failing h_past h_aside h_best h_tried h_kept h_keptPast h_sheets h_sheets_x h_sheets_x_r : Nat) (shf : Nat → Option Nat) (sz : Nat) (taped : Int32) (reads : Int32) (undoMany : Int32) (keptMany : Int32) (isKept : Int32) (rn : Nat) (rw : Nat → Int64) (p1 : Int32)(hsh : shf p1.toNatClampNeg = some h_sheets_x) (Q : Int32 → (Bool) → Prop) (hw : wp_X0_drop_J rn rw p1 Q) : Met l yX0_drop (ws_ yX0_drop cX0_drop 3 (some .int)) ({ frames := 2, cells := 0, slots := 0, locals := 46 } : Room) (va_Pc [.ref h, .int p1] (fun U => U.heap.size = sz ∧ va_P G.1 gCl [oc h 0 [.ref h_kinds, .ref h_now, .ref h_fault, .ref h_tape, .int taped, .int reads, .ref h_got, .ref h_failing, .ref h_past, .int undoMany, .ref h_aside, .ref h_best, .ref h_tried, .ref h_kept, .ref h_keptPast, .int keptMany, .int isKept, .ref h_sheets], arf G h_sheets 7 4 shf, oc h_sheets_x 8 [.ref h_sheets_x_r], al G h_sheets_x_r rn rw] U.heap ∧ gK G U ∧ va_D (fun _ => True) [oc h 0 [.ref h_kinds, .ref h_now, .ref h_fault, .ref h_tape, .int taped, .int reads, .ref h_got, .ref h_failing, .ref h_past, .int undoMany, .ref h_aside, .ref h_best, .ref h_tried, .ref h_kept, .ref h_keptPast, .int keptMany, .int isKept, .ref h_sheets], arf G h_sheets 7 4 shf, oc h_sheets_x 8 [.ref h_sheets_x_r], al G h_sheets_x_r rn rw])) ((fun A => (va_Qi (fun (r : Int32) (u : Bool) => Q r u) (fun u t => va_P G.1 gCl [oc h 0 [.ref h_kinds, .ref h_now, .ref h_fault, .ref h_tape, .int taped, .int reads, .ref h_got, .ref h_failing, .ref h_past, .int undoMany, .ref h_aside, .ref h_best, .ref h_tried, .ref h_kept, .ref h_keptPast, .int keptMany, .int isKept, .ref h_sheets], arf G h_sheets 7 4 shf, oc h_sheets_x 8 [(rfd u h_sheets_x_r)], al G h_sheets_x_r rn rw] t.heap ∧ va_D A [oc h 0 [.ref h_kinds, .ref h_now, .ref h_fault, .ref h_tape, .int taped, .int reads, .ref h_got, .ref h_failing, .ref h_past, .int undoMany, .ref h_aside, .ref h_best, .ref h_tried, .ref h_kept, .ref h_keptPast, .int keptMany, .int isKept, .ref h_sheets], arf G h_sheets 7 4 shf, oc h_sheets_x 8 [(rfd u h_sheets_x_r)], al G h_sheets_x_r rn rw]) A)) (va_A [oc h 0 [.ref h_kinds, .ref h_now, .ref h_fault, .ref h_tape, .int taped, .int reads, .ref h_got, .ref h_failing, .ref h_past, .int undoMany, .ref h_aside, .ref h_best, .ref h_tried, .ref h_kept, .ref h_keptPast, .int keptMany, .int isKept, .ref h_sheets], arf G h_sheets 7 4 shf, oc h_sheets_x 8 [.ref h_sheets_x_r], al G h_sheets_x_r rn rw] sz)) 0 0 (va_A [oc h 0 [.ref h_kinds, .ref h_now, .ref h_fault, .ref h_tape, .int taped, .int reads, .ref h_got, .ref h_failing, .ref h_past, .int undoMany, .ref h_aside, .ref h_best, .ref h_tried, .ref h_kept, .ref h_keptPast, .int keptMany, .int isKept, .ref h_sheets], arf G h_sheets 7 4 shf, oc h_sheets_x 8 [.ref h_sheets_x_r], al G h_sheets_x_r rn rw] sz) := by
  refine Met.ofW (cc := cX0_drop) (maxL := 3) (ret := (some .int)) (by decide) rfl ?_
  intro p e s m args below meth c s₁ B hml hv
  obtain ⟨rfl, hsz, hP, hK, hD0⟩ := hv
  have hx := B.exec
  have hb := B.bytes
  have hr := B.returns
  have hts := atoms_spec (ws := (ws_ yX0_drop cX0_drop 3 (some .int))) B.pre
  have hts : ∀ w ∈ lw_all, w.before _ s = true := fun w h => hts w (List.mem_cons_of_mem _ h)
  have hown : s.vm.findClass RX0 = some m.cls := findClass_of_methodNamed B.named
  have hlocks := B.notSynchronized
  subst hsz
  have hD := hD0.self (sz := s.heap.size)
  generalize hAe : va_A [oc h 0 [.ref h_kinds, .ref h_now, .ref h_fault, .ref h_tape, .int taped, .int reads, .ref h_got, .ref h_failing, .ref h_past, .int undoMany, .ref h_aside, .ref h_best, .ref h_tried, .ref h_kept, .ref h_keptPast, .int keptMany, .int isKept, .ref h_sheets], arf G h_sheets 7 4 shf, oc h_sheets_x 8 [.ref h_sheets_x_r], al G h_sheets_x_r rn rw] s.heap.size = A at hD ⊢
  have hA : ∀ q : Nat, s.heap.size ≤ q → A q := fun q h => by rw [← hAe]; exact Or.inr h
  have hS : va_S A s.heap s.heap [] := va_S.rf
  have C : Cx p s m meth c cX0_drop 3 (some .int) RX0 ([.ref h, .int p1] : List Value).toArray G A := ⟨hx, hb, hr, hlocks, hml, hown, hts, hK, hA⟩
  have hl := lv_entry ([.ref h, .int p1]) (n := 3) (Nat.le_of_ble_eq_true rfl)
  rw [lg_entry_eq]
  generalize (lg_sl ([.ref h, .int p1]) ++ List.replicate (3 - (lg_sl ([.ref h, .int p1])).length) Slot.unset).toArray = ls at hl ⊢
  have hl : lv_has ls 3 [(0, .ref h), (1, .int p1)] := hl
  unfold wp_X0_drop_J at hw
  refine lv_iload_n hx hb dX0_drop_0 rfl (lv_at hl 1 rfl) ?_
  refine lv_iconst (v := (0 : Int32)) hx hb dX0_drop_1 (by decide) ?_
  have hPc := hP.sub (ws' := []) [] rfl
  have hDc := hD.sub (ws' := []) [] (by decide) rfl
  have hFc := va_free (wc := []) hD hS hA [] rfl
  refine va_calli (va_runS (As := [.int p1, .int (0 : Int32)]) (rest := []) ⟨hx, hb, hml, hown, hts⟩ (mt_X0_isSheet l G  s.heap.size  p1 (0 : Int32) _ hw) (va_cwS 2 hts (lw_S q648 q649 q54 q650) rfl rfl rfl (by decide +kernel) ⟨Nat.le_of_ble_eq_true rfl, Nat.le_of_ble_eq_true rfl⟩) ⟨fun a U g mk q => by obtain ⟨q0, q1, qP, qK, qD⟩ := q; exact ⟨q0, q1, qP, qK.call, qD⟩, fun U hU hW => ⟨rfl, by rw [hU], by rw [hU]; exact hPc, hK.warm hW, hDc.weaken (fun _ _ _ _ => trivial)⟩⟩ rfl rfl hl.1 rfl (lv_room (Nat.le_of_ble_eq_true rfl)) dX0_drop_2 ⟨Nat.le_of_ble_eq_true rfl, Nat.le_of_ble_eq_true rfl⟩) hS (fun q _ h => hFc q h) hFc (fun r_1 _ t H1 locs ht hvm hw hB hz1 hk1 hS => ?_)
  obtain ⟨hP1, hD1⟩ := hB
  rw [ht] at hP1
  obtain ⟨hP, hD⟩ := va_join (wr := [oc h 0 [.ref h_kinds, .ref h_now, .ref h_fault, .ref h_tape, .int taped, .int reads, .ref h_got, .ref h_failing, .ref h_past, .int undoMany, .ref h_aside, .ref h_best, .ref h_tried, .ref h_kept, .ref h_keptPast, .int keptMany, .int isKept, .ref h_sheets], arf G h_sheets 7 4 shf, oc h_sheets_x 8 [.ref h_sheets_x_r], al G h_sheets_x_r rn rw]) (w1 := []) hP hD [] [0, 1, 2, 3] rfl rfl (by decide) (by decide) hk1 hFc hP1 hD1
  clear hPc hDc hFc hP1 hD1 hz1 hk1 hvm
  generalize H1 = H at hP hS ⊢
  have hP : va_P G.1 gCl [oc h 0 [.ref h_kinds, .ref h_now, .ref h_fault, .ref h_tape, .int taped, .int reads, .ref h_got, .ref h_failing, .ref h_past, .int undoMany, .ref h_aside, .ref h_best, .ref h_tried, .ref h_kept, .ref h_keptPast, .int keptMany, .int isKept, .ref h_sheets], arf G h_sheets 7 4 shf, oc h_sheets_x 8 [.ref h_sheets_x_r], al G h_sheets_x_r rn rw] H := hP
  have hD : va_D A [oc h 0 [.ref h_kinds, .ref h_now, .ref h_fault, .ref h_tape, .int taped, .int reads, .ref h_got, .ref h_failing, .ref h_past, .int undoMany, .ref h_aside, .ref h_best, .ref h_tried, .ref h_kept, .ref h_keptPast, .int keptMany, .int isKept, .ref h_sheets], arf G h_sheets 7 4 shf, oc h_sheets_x 8 [.ref h_sheets_x_r], al G h_sheets_x_r rn rw] := hD
  refine lv_if_ne (tgt := 10) hx hb dX0_drop_5 (by decide) (fun c_2 => ?_) (fun c_2 => ?_)
  · replace hw := hw.1 c_2
    refine lv_aload_n hx hb dX0_drop_10 rfl (lv_at hl 0 rfl) ?_
    refine va_get (D := G.1) (ci := 0) (v := .ref h_sheets) (C := RX0) (T := TX0) (N := 18) hx hb hts in_X0 hown hK.1 hP 0 rfl rfl 17 (by decide) (hts _ q273) (fun _ h9 => h9) rfl dX0_drop_11 ?_
    refine lv_iload_n hx hb dX0_drop_14 rfl (lv_at hl 1 rfl) ?_
    obtain ⟨i_3, hw⟩ := hw
    refine z_aaldS hx hb hK.1 hP 1 7 rfl rfl i_3 dX0_drop_15 hsh ?_
    refine va_getN (D := G.1) (ci := 8) (v := .ref h_sheets_x_r) (C := RX8) (T := TX8) (N := 1) hx hb hts in_X8 hown hK.1 hP 2 rfl rfl 0 (by decide) (hK.n q251 rfl) (fun _ h9 => h9) rfl dX0_drop_16 ?_
    refine lv_ifnonnull (tgt := 25) hx hb dX0_drop_19 (by decide) ?_
    refine lv_aload_n hx hb dX0_drop_25 rfl (lv_at hl 0 rfl) ?_
    refine va_get (D := G.1) (ci := 0) (v := .ref h_sheets) (C := RX0) (T := TX0) (N := 18) hx hb hts in_X0 hown hK.1 hP 0 rfl rfl 17 (by decide) (hts _ q273) (fun _ h9 => h9) rfl dX0_drop_26 ?_
    refine lv_iload_n hx hb dX0_drop_29 rfl (lv_at hl 1 rfl) ?_
    obtain ⟨i_4, hw⟩ := hw
    refine z_aaldS hx hb hK.1 hP 1 7 rfl rfl i_4 dX0_drop_30 hsh ?_
    have hPc := hP.sub (ws' := [oc h_sheets_x 8 [.ref h_sheets_x_r], al G h_sheets_x_r rn rw]) [2, 3] rfl
    have hDc := hD.sub (ws' := [oc h_sheets_x 8 [.ref h_sheets_x_r], al G h_sheets_x_r rn rw]) [2, 3] (by decide) rfl
    have hFc := va_free (wc := [oc h_sheets_x 8 [.ref h_sheets_x_r], al G h_sheets_x_r rn rw]) hD hS hA [2, 3] rfl
    refine va_calli (va_runV (As := []) (rest := []) ⟨hx, hb, hml, hown, hts⟩ (mt_X8_size_J l G h_sheets_x h_sheets_x_r H.size rn rw  _ hw) (cwV 0 hts (lw_V q664 q665 q666 q64 q667) rfl rfl rfl (by decide +kernel) ⟨Nat.le_of_ble_eq_true rfl, Nat.le_of_ble_eq_true rfl⟩) ⟨fun a U g mk q => by obtain ⟨q0, q1, qP, qK, qD⟩ := q; exact ⟨q0, q1, qP, qK.call, qD⟩, va_recv hK.1 hP (ci := 8) (q0 := 2) rfl rfl, fun U hU hW => ⟨rfl, by rw [hU], by rw [hU]; exact hPc, hK.warm hW, hDc.weaken (fun _ _ _ _ => trivial)⟩⟩ rfl rfl hl.1 rfl (lv_room (Nat.le_of_ble_eq_true rfl)) dX0_drop_31 ⟨Nat.le_of_ble_eq_true rfl, Nat.le_of_ble_eq_true rfl⟩) hS (fun q _ h => hFc q h) hFc (fun r_5 _ t H1 locs ht hvm hw hB hz1 hk1 hS => ?_)
    obtain ⟨hP1, hD1⟩ := hB
    rw [ht] at hP1
    obtain ⟨hP, hD⟩ := va_join (wr := [oc h 0 [.ref h_kinds, .ref h_now, .ref h_fault, .ref h_tape, .int taped, .int reads, .ref h_got, .ref h_failing, .ref h_past, .int undoMany, .ref h_aside, .ref h_best, .ref h_tried, .ref h_kept, .ref h_keptPast, .int keptMany, .int isKept, .ref h_sheets], arf G h_sheets 7 4 shf]) (w1 := [oc h_sheets_x 8 [.ref h_sheets_x_r], al G h_sheets_x_r rn rw]) hP hD [2, 3] [0, 1] rfl rfl (by decide) (by decide) hk1 hFc hP1 hD1
    clear hPc hDc hFc hP1 hD1 hz1 hk1 hvm
    generalize H1 = H at hP hS ⊢
    have hP : va_P G.1 gCl [oc h 0 [.ref h_kinds, .ref h_now, .ref h_fault, .ref h_tape, .int taped, .int reads, .ref h_got, .ref h_failing, .ref h_past, .int undoMany, .ref h_aside, .ref h_best, .ref h_tried, .ref h_kept, .ref h_keptPast, .int keptMany, .int isKept, .ref h_sheets], arf G h_sheets 7 4 shf, oc h_sheets_x 8 [.ref h_sheets_x_r], al G h_sheets_x_r rn rw] H := hP
    have hD : va_D A [oc h 0 [.ref h_kinds, .ref h_now, .ref h_fault, .ref h_tape, .int taped, .int reads, .ref h_got, .ref h_failing, .ref h_past, .int undoMany, .ref h_aside, .ref h_best, .ref h_tried, .ref h_kept, .ref h_keptPast, .int keptMany, .int isKept, .ref h_sheets], arf G h_sheets 7 4 shf, oc h_sheets_x 8 [.ref h_sheets_x_r], al G h_sheets_x_r rn rw] := hD
    refine lv_istore_n (lv' := [(2, .int r_5), (0, .ref h), (1, .int p1)]) hx hb dX0_drop_34 rfl hl (by decide) rfl (fun ls hl => ?_)
    refine lv_aload_n hx hb dX0_drop_35 rfl (lv_at hl 1 rfl) ?_
    refine va_get (D := G.1) (ci := 0) (v := .ref h_sheets) (C := RX0) (T := TX0) (N := 18) hx hb hts in_X0 hown hK.1 hP 0 rfl rfl 17 (by decide) (hts _ q273) (fun _ h9 => h9) rfl dX0_drop_36 ?_
    refine lv_iload_n hx hb dX0_drop_39 rfl (lv_at hl 2 rfl) ?_
    obtain ⟨i_6, hw⟩ := hw
    refine z_aaldS hx hb hK.1 hP 1 7 rfl rfl i_6 dX0_drop_40 hsh ?_
    refine lv_null hx hb dX0_drop_41 ?_
    refine va_putN (D := G.1) (ci := 8) (v := .null) (ty := (.object "java/lang/Object")) (C := RX8) (T := TX8) (N := 1) hx hb hts in_X8 tyX8 tyX8_ok nmX8 hown hK.1 hP hD hS 2 rfl rfl 0 (by decide) (hK.n q251 rfl) (fun _ h9 => h9) rfl (by decide +kernel) rfl rfl (Nat.le_of_ble_eq_true rfl) dX0_drop_42 (fun H locs hP hD hS => ?_)
    have hP : va_P G.1 gCl [oc h 0 [.ref h_kinds, .ref h_now, .ref h_fault, .ref h_tape, .int taped, .int reads, .ref h_got, .ref h_failing, .ref h_past, .int undoMany, .ref h_aside, .ref h_best, .ref h_tried, .ref h_kept, .ref h_keptPast, .int keptMany, .int isKept, .ref h_sheets], arf G h_sheets 7 4 shf, oc h_sheets_x 8 [.null], al G h_sheets_x_r rn rw] H := hP
    have hD : va_D A [oc h 0 [.ref h_kinds, .ref h_now, .ref h_fault, .ref h_tape, .int taped, .int reads, .ref h_got, .ref h_failing, .ref h_past, .int undoMany, .ref h_aside, .ref h_best, .ref h_tried, .ref h_kept, .ref h_keptPast, .int keptMany, .int isKept, .ref h_sheets], arf G h_sheets 7 4 shf, oc h_sheets_x 8 [.null], al G h_sheets_x_r rn rw] := hD
    refine lv_iload_n hx hb dX0_drop_45 rfl (lv_at hl 0 rfl) ?_
    have hP9 := hP
    have hD9 := hD
    exact W.iret (v := r_5) hx hb hr (fun t ht hW => ⟨⟨r_5, true, rfl, hw, by rw [ht]; exact hP9, hD9⟩, hS.F ht⟩) hS.2.2 dX0_drop_46
  · replace hw := hw.2 c_2
    refine lv_iconst (v := (-1 : Int32)) hx hb dX0_drop_8 (by decide) ?_
    have hP9 := hP
    have hD9 := hD
    exact W.iret (v := (-1 : Int32)) hx hb hr (fun t ht hW => ⟨⟨(-1 : Int32), false, rfl, hw, by rw [ht]; exact hP9, hD9⟩, hS.F ht⟩) hS.2.2 dX0_drop_9
/-! BattleBench.drop(I)I -/
def wp_X0_drop_N (p1 : Int32) (Q : Int32 → Prop) : Prop :=
  wp_X0_isSheet  p1 (0 : Int32) (fun r_1 => ((¬ (r_1 = 0) → (vp_in p1 4 ∧ Q (-11 : Int32))) ∧ ((r_1 = 0) → Q (-1 : Int32))))
set_option maxHeartbeats 4000000 in
theorem mt_X0_drop_N (l : Launch) (G : GT) (h h_kinds h_now h_fault h_tape h_got h_failing h_past h_aside h_best h_tried h_kept h_keptPast h_sheets h_sheets_x : Nat) (shf : Nat → Option Nat) (sz : Nat) (taped : Int32) (reads : Int32) (undoMany : Int32) (keptMany : Int32) (isKept : Int32) (p1 : Int32)(hsh : shf p1.toNatClampNeg = some h_sheets_x) (Q : Int32 → Prop) (hw : wp_X0_drop_N p1 Q) : Met l yX0_drop (ws_ yX0_drop cX0_drop 3 (some .int)) ({ frames := 2, cells := 0, slots := 0, locals := 46 } : Room) (va_Pc [.ref h, .int p1] (fun U => U.heap.size = sz ∧ va_P G.1 gCl [oc h 0 [.ref h_kinds, .ref h_now, .ref h_fault, .ref h_tape, .int taped, .int reads, .ref h_got, .ref h_failing, .ref h_past, .int undoMany, .ref h_aside, .ref h_best, .ref h_tried, .ref h_kept, .ref h_keptPast, .int keptMany, .int isKept, .ref h_sheets], arf G h_sheets 7 4 shf, oc h_sheets_x 8 [.null]] U.heap ∧ gK G U ∧ va_D (fun _ => True) [oc h 0 [.ref h_kinds, .ref h_now, .ref h_fault, .ref h_tape, .int taped, .int reads, .ref h_got, .ref h_failing, .ref h_past, .int undoMany, .ref h_aside, .ref h_best, .ref h_tried, .ref h_kept, .ref h_keptPast, .int keptMany, .int isKept, .ref h_sheets], arf G h_sheets 7 4 shf, oc h_sheets_x 8 [.null]])) ((fun A => (va_Qi (fun (r : Int32) (u : Unit) => Q r ) (fun u t => va_P G.1 gCl [oc h 0 [.ref h_kinds, .ref h_now, .ref h_fault, .ref h_tape, .int taped, .int reads, .ref h_got, .ref h_failing, .ref h_past, .int undoMany, .ref h_aside, .ref h_best, .ref h_tried, .ref h_kept, .ref h_keptPast, .int keptMany, .int isKept, .ref h_sheets], arf G h_sheets 7 4 shf, oc h_sheets_x 8 [.null]] t.heap ∧ va_D A [oc h 0 [.ref h_kinds, .ref h_now, .ref h_fault, .ref h_tape, .int taped, .int reads, .ref h_got, .ref h_failing, .ref h_past, .int undoMany, .ref h_aside, .ref h_best, .ref h_tried, .ref h_kept, .ref h_keptPast, .int keptMany, .int isKept, .ref h_sheets], arf G h_sheets 7 4 shf, oc h_sheets_x 8 [.null]]) A)) (va_A [oc h 0 [.ref h_kinds, .ref h_now, .ref h_fault, .ref h_tape, .int taped, .int reads, .ref h_got, .ref h_failing, .ref h_past, .int undoMany, .ref h_aside, .ref h_best, .ref h_tried, .ref h_kept, .ref h_keptPast, .int keptMany, .int isKept, .ref h_sheets], arf G h_sheets 7 4 shf, oc h_sheets_x 8 [.null]] sz)) 0 0 (va_A [oc h 0 [.ref h_kinds, .ref h_now, .ref h_fault, .ref h_tape, .int taped, .int reads, .ref h_got, .ref h_failing, .ref h_past, .int undoMany, .ref h_aside, .ref h_best, .ref h_tried, .ref h_kept, .ref h_keptPast, .int keptMany, .int isKept, .ref h_sheets], arf G h_sheets 7 4 shf, oc h_sheets_x 8 [.null]] sz) := by
  refine Met.ofW (cc := cX0_drop) (maxL := 3) (ret := (some .int)) (by decide) rfl ?_
  intro p e s m args below meth c s₁ B hml hv
  obtain ⟨rfl, hsz, hP, hK, hD0⟩ := hv
  have hx := B.exec
  have hb := B.bytes
  have hr := B.returns
  have hts := atoms_spec (ws := (ws_ yX0_drop cX0_drop 3 (some .int))) B.pre
  have hts : ∀ w ∈ lw_all, w.before _ s = true := fun w h => hts w (List.mem_cons_of_mem _ h)
  have hown : s.vm.findClass RX0 = some m.cls := findClass_of_methodNamed B.named
  have hlocks := B.notSynchronized
  subst hsz
  have hD := hD0.self (sz := s.heap.size)
  generalize hAe : va_A [oc h 0 [.ref h_kinds, .ref h_now, .ref h_fault, .ref h_tape, .int taped, .int reads, .ref h_got, .ref h_failing, .ref h_past, .int undoMany, .ref h_aside, .ref h_best, .ref h_tried, .ref h_kept, .ref h_keptPast, .int keptMany, .int isKept, .ref h_sheets], arf G h_sheets 7 4 shf, oc h_sheets_x 8 [.null]] s.heap.size = A at hD ⊢
  have hA : ∀ q : Nat, s.heap.size ≤ q → A q := fun q h => by rw [← hAe]; exact Or.inr h
  have hS : va_S A s.heap s.heap [] := va_S.rf
  have C : Cx p s m meth c cX0_drop 3 (some .int) RX0 ([.ref h, .int p1] : List Value).toArray G A := ⟨hx, hb, hr, hlocks, hml, hown, hts, hK, hA⟩
  have hl := lv_entry ([.ref h, .int p1]) (n := 3) (Nat.le_of_ble_eq_true rfl)
  rw [lg_entry_eq]
  generalize (lg_sl ([.ref h, .int p1]) ++ List.replicate (3 - (lg_sl ([.ref h, .int p1])).length) Slot.unset).toArray = ls at hl ⊢
  have hl : lv_has ls 3 [(0, .ref h), (1, .int p1)] := hl
  unfold wp_X0_drop_N at hw
  refine lv_iload_n hx hb dX0_drop_0 rfl (lv_at hl 1 rfl) ?_
  refine lv_iconst (v := (0 : Int32)) hx hb dX0_drop_1 (by decide) ?_
  have hPc := hP.sub (ws' := []) [] rfl
  have hDc := hD.sub (ws' := []) [] (by decide) rfl
  have hFc := va_free (wc := []) hD hS hA [] rfl
  refine va_calli (va_runS (As := [.int p1, .int (0 : Int32)]) (rest := []) ⟨hx, hb, hml, hown, hts⟩ (mt_X0_isSheet l G  s.heap.size  p1 (0 : Int32) _ hw) (va_cwS 2 hts (lw_S q648 q649 q54 q650) rfl rfl rfl (by decide +kernel) ⟨Nat.le_of_ble_eq_true rfl, Nat.le_of_ble_eq_true rfl⟩) ⟨fun a U g mk q => by obtain ⟨q0, q1, qP, qK, qD⟩ := q; exact ⟨q0, q1, qP, qK.call, qD⟩, fun U hU hW => ⟨rfl, by rw [hU], by rw [hU]; exact hPc, hK.warm hW, hDc.weaken (fun _ _ _ _ => trivial)⟩⟩ rfl rfl hl.1 rfl (lv_room (Nat.le_of_ble_eq_true rfl)) dX0_drop_2 ⟨Nat.le_of_ble_eq_true rfl, Nat.le_of_ble_eq_true rfl⟩) hS (fun q _ h => hFc q h) hFc (fun r_1 _ t H1 locs ht hvm hw hB hz1 hk1 hS => ?_)
  obtain ⟨hP1, hD1⟩ := hB
  rw [ht] at hP1
  obtain ⟨hP, hD⟩ := va_join (wr := [oc h 0 [.ref h_kinds, .ref h_now, .ref h_fault, .ref h_tape, .int taped, .int reads, .ref h_got, .ref h_failing, .ref h_past, .int undoMany, .ref h_aside, .ref h_best, .ref h_tried, .ref h_kept, .ref h_keptPast, .int keptMany, .int isKept, .ref h_sheets], arf G h_sheets 7 4 shf, oc h_sheets_x 8 [.null]]) (w1 := []) hP hD [] [0, 1, 2] rfl rfl (by decide) (by decide) hk1 hFc hP1 hD1
  clear hPc hDc hFc hP1 hD1 hz1 hk1 hvm
  generalize H1 = H at hP hS ⊢
  have hP : va_P G.1 gCl [oc h 0 [.ref h_kinds, .ref h_now, .ref h_fault, .ref h_tape, .int taped, .int reads, .ref h_got, .ref h_failing, .ref h_past, .int undoMany, .ref h_aside, .ref h_best, .ref h_tried, .ref h_kept, .ref h_keptPast, .int keptMany, .int isKept, .ref h_sheets], arf G h_sheets 7 4 shf, oc h_sheets_x 8 [.null]] H := hP
  have hD : va_D A [oc h 0 [.ref h_kinds, .ref h_now, .ref h_fault, .ref h_tape, .int taped, .int reads, .ref h_got, .ref h_failing, .ref h_past, .int undoMany, .ref h_aside, .ref h_best, .ref h_tried, .ref h_kept, .ref h_keptPast, .int keptMany, .int isKept, .ref h_sheets], arf G h_sheets 7 4 shf, oc h_sheets_x 8 [.null]] := hD
  refine lv_if_ne (tgt := 10) hx hb dX0_drop_5 (by decide) (fun c_2 => ?_) (fun c_2 => ?_)
  · replace hw := hw.1 c_2
    refine lv_aload_n hx hb dX0_drop_10 rfl (lv_at hl 0 rfl) ?_
    refine va_get (D := G.1) (ci := 0) (v := .ref h_sheets) (C := RX0) (T := TX0) (N := 18) hx hb hts in_X0 hown hK.1 hP 0 rfl rfl 17 (by decide) (hts _ q273) (fun _ h9 => h9) rfl dX0_drop_11 ?_
    refine lv_iload_n hx hb dX0_drop_14 rfl (lv_at hl 1 rfl) ?_
    obtain ⟨i_3, hw⟩ := hw
    refine z_aaldS hx hb hK.1 hP 1 7 rfl rfl i_3 dX0_drop_15 hsh ?_
    refine va_getN (D := G.1) (ci := 8) (v := .null) (C := RX8) (T := TX8) (N := 1) hx hb hts in_X8 hown hK.1 hP 2 rfl rfl 0 (by decide) (hK.n q251 rfl) (fun _ h9 => h9) rfl dX0_drop_16 ?_
    refine lv_ifnonnullN hx hb dX0_drop_19 ?_
    refine lv_bipush (v := (-11 : Int32)) hx hb dX0_drop_22 (by decide) ?_
    have hP9 := hP
    have hD9 := hD
    exact W.iret (v := (-11 : Int32)) hx hb hr (fun t ht hW => ⟨⟨(-11 : Int32), (), rfl, hw, by rw [ht]; exact hP9, hD9⟩, hS.F ht⟩) hS.2.2 dX0_drop_24
  · replace hw := hw.2 c_2
    refine lv_iconst (v := (-1 : Int32)) hx hb dX0_drop_8 (by decide) ?_
    have hP9 := hP
    have hD9 := hD
    exact W.iret (v := (-1 : Int32)) hx hb hr (fun t ht hW => ⟨⟨(-1 : Int32), (), rfl, hw, by rw [ht]; exact hP9, hD9⟩, hS.F ht⟩) hS.2.2 dX0_drop_9
/-! BattleBench.sheet(III)I -/
def wp_X0_sheet_R (G : GT) (rv : Option Nat) (p1 : Int32) (p2 : Int32) (p3 : Int32) (Q : Int32 → (Option Nat × va_W) → Prop) : Prop :=
  wp_X0_isSheet  p1 p2 (fun r_1 => (((r_1 = 0) → Q (-1 : Int32) (rv, [])) ∧ (¬ (r_1 = 0) → (((p3 ≤ (24 : Int32)) → (vp_in p1 4 ∧ ((¬ (p2 = 0) → ((¬ (p2 = (1 : Int32)) → ((¬ (p2 = (2 : Int32)) → ((p3 < 0 → Q (-14 : Int32) (rv, [])) ∧ (¬ p3 < 0 → (p3.toNatClampNeg ≤ 24 ∧ ∀ q_10 : Nat, Q p3 ((some q_10), [al G q_10 p3.toNatClampNeg (fun _ => 0)]))))) ∧ ((p2 = (2 : Int32)) → ((p3 < 0 → Q (-14 : Int32) (rv, [])) ∧ (¬ p3 < 0 → (p3.toNatClampNeg ≤ 24 ∧ ∀ q_14 : Nat, Q p3 ((some q_14), [ai G q_14 p3.toNatClampNeg (fun _ => 0)]))))))) ∧ ((p2 = (1 : Int32)) → ((p3 < 0 → Q (-14 : Int32) (rv, [])) ∧ (¬ p3 < 0 → (p3.toNatClampNeg ≤ 24 ∧ ∀ q_18 : Nat, Q p3 ((some q_18), [ah G q_18 p3.toNatClampNeg (fun _ => 0)]))))))) ∧ ((p2 = 0) → ((p3 < 0 → Q (-14 : Int32) (rv, [])) ∧ (¬ p3 < 0 → (p3.toNatClampNeg ≤ 24 ∧ ∀ q_22 : Nat, Q p3 ((some q_22), [ay G q_22 p3.toNatClampNeg (fun _ => 0)])))))))) ∧ (¬ (p3 ≤ (24 : Int32)) → Q (-1 : Int32) (rv, []))))))
set_option maxHeartbeats 4000000 in
theorem mt_X0_sheet_R (l : Launch) (G : GT) (aS : Nat) (hfl : l.flags = pinnedFlags ++ [noTraceFlag]) (h h_kinds h_now h_fault h_tape h_got h_failing h_past h_aside h_best h_tried h_kept h_keptPast h_sheets h_sheets_x : Nat) (shf : Nat → Option Nat) (sz : Nat) (taped : Int32) (reads : Int32) (undoMany : Int32) (keptMany : Int32) (isKept : Int32) (rv : Option Nat) (p1 : Int32) (p2 : Int32) (p3 : Int32)(hsh : shf p1.toNatClampNeg = some h_sheets_x) (Q : Int32 → (Option Nat × va_W) → Prop) (hw : wp_X0_sheet_R G rv p1 p2 p3 Q) : Met l yX0_sheet (wsW_ yX0_sheet cX0_sheet 5 (some .int) [(16, 60, 63, 352)]) ({ frames := 8, cells := 3, slots := 1010, locals := 10248 } : Room) (va_Pc [.ref h, .int p1, .int p2, .int p3] (fun U => U.heap.size = sz ∧ va_P G.1 gCl [oc h 0 [.ref h_kinds, .ref h_now, .ref h_fault, .ref h_tape, .int taped, .int reads, .ref h_got, .ref h_failing, .ref h_past, .int undoMany, .ref h_aside, .ref h_best, .ref h_tried, .ref h_kept, .ref h_keptPast, .int keptMany, .int isKept, .ref h_sheets], arf G h_sheets 7 4 shf, oc h_sheets_x 8 [(va_rf rv)]] U.heap ∧ gK G U ∧ va_D (fun _ => True) [oc h 0 [.ref h_kinds, .ref h_now, .ref h_fault, .ref h_tape, .int taped, .int reads, .ref h_got, .ref h_failing, .ref h_past, .int undoMany, .ref h_aside, .ref h_best, .ref h_tried, .ref h_kept, .ref h_keptPast, .int keptMany, .int isKept, .ref h_sheets], arf G h_sheets 7 4 shf, oc h_sheets_x 8 [(va_rf rv)]] ∧ stS aS U)) ((fun A => (va_Qi (fun (r : Int32) (u : Option Nat × va_W) => Q r u) (fun u t => va_P G.1 gCl ([oc h 0 [.ref h_kinds, .ref h_now, .ref h_fault, .ref h_tape, .int taped, .int reads, .ref h_got, .ref h_failing, .ref h_past, .int undoMany, .ref h_aside, .ref h_best, .ref h_tried, .ref h_kept, .ref h_keptPast, .int keptMany, .int isKept, .ref h_sheets], arf G h_sheets 7 4 shf, oc h_sheets_x 8 [(va_rf u.1)]] ++ u.2) t.heap ∧ va_D A ([oc h 0 [.ref h_kinds, .ref h_now, .ref h_fault, .ref h_tape, .int taped, .int reads, .ref h_got, .ref h_failing, .ref h_past, .int undoMany, .ref h_aside, .ref h_best, .ref h_tried, .ref h_kept, .ref h_keptPast, .int keptMany, .int isKept, .ref h_sheets], arf G h_sheets 7 4 shf, oc h_sheets_x 8 [(va_rf u.1)]] ++ u.2)) A)) (va_A [oc h 0 [.ref h_kinds, .ref h_now, .ref h_fault, .ref h_tape, .int taped, .int reads, .ref h_got, .ref h_failing, .ref h_past, .int undoMany, .ref h_aside, .ref h_best, .ref h_tried, .ref h_kept, .ref h_keptPast, .int keptMany, .int isKept, .ref h_sheets], arf G h_sheets 7 4 shf, oc h_sheets_x 8 [(va_rf rv)]] sz)) 3 1010 (va_A [oc h 0 [.ref h_kinds, .ref h_now, .ref h_fault, .ref h_tape, .int taped, .int reads, .ref h_got, .ref h_failing, .ref h_past, .int undoMany, .ref h_aside, .ref h_best, .ref h_tried, .ref h_kept, .ref h_keptPast, .int keptMany, .int isKept, .ref h_sheets], arf G h_sheets 7 4 shf, oc h_sheets_x 8 [(va_rf rv)]] sz) := by
  refine va_MetW (hh := [(16, 60, 63, 352)]) (cc := cX0_sheet) (maxL := 5) (ret := (some .int)) (by decide) rfl ?_
  intro p e s m args below meth c s₁ B hml hv
  obtain ⟨rfl, hsz, hP, hK, hD0, hst⟩ := hv
  have hx := B.exec
  have hb := B.bytes
  have hr := B.returns
  have hts := atoms_spec (ws := (wsW_ yX0_sheet cX0_sheet 5 (some .int) [(16, 60, 63, 352)])) B.pre
  have hts : ∀ w ∈ lw_all, w.before _ s = true := fun w h => hts w (List.mem_cons_of_mem _ h)
  have hown : s.vm.findClass RX0 = some m.cls := findClass_of_methodNamed B.named
  have hlocks := B.notSynchronized
  have hhd : c.exceptionTable.toList = [⟨16, 60, 63, 352⟩] := x_hand B (atoms_spec (ws := (wsW_ yX0_sheet cX0_sheet 5 (some .int) [(16, 60, 63, 352)])) B.pre _ List.mem_cons_self)
  subst hsz
  have hD := hD0.self (sz := s.heap.size)
  generalize hAe : va_A [oc h 0 [.ref h_kinds, .ref h_now, .ref h_fault, .ref h_tape, .int taped, .int reads, .ref h_got, .ref h_failing, .ref h_past, .int undoMany, .ref h_aside, .ref h_best, .ref h_tried, .ref h_kept, .ref h_keptPast, .int keptMany, .int isKept, .ref h_sheets], arf G h_sheets 7 4 shf, oc h_sheets_x 8 [(va_rf rv)]] s.heap.size = A at hD ⊢
  have hA : ∀ q : Nat, s.heap.size ≤ q → A q := fun q h => by rw [← hAe]; exact Or.inr h
  have hS : va_S A s.heap s.heap [] := va_S.rf
  have hX : XCx l aS s A := ⟨hfl, hst, fun q cell hq hc => va_A.ns hP (by rw [hAe]; exact hq) hc⟩
  have C : Cx p s m meth c cX0_sheet 5 (some .int) RX0 ([.ref h, .int p1, .int p2, .int p3] : List Value).toArray G A := ⟨hx, hb, hr, hlocks, hml, hown, hts, hK, hA⟩
  have hl := lv_entry ([.ref h, .int p1, .int p2, .int p3]) (n := 5) (Nat.le_of_ble_eq_true rfl)
  rw [lg_entry_eq]
  generalize (lg_sl ([.ref h, .int p1, .int p2, .int p3]) ++ List.replicate (5 - (lg_sl ([.ref h, .int p1, .int p2, .int p3])).length) Slot.unset).toArray = ls at hl ⊢
  have hl : lv_has ls 5 [(0, .ref h), (1, .int p1), (2, .int p2), (3, .int p3)] := hl
  unfold wp_X0_sheet_R at hw
  refine lv_iload_n hx hb dX0_sheet_0 rfl (lv_at hl 1 rfl) ?_
  refine lv_iload_n hx hb dX0_sheet_1 rfl (lv_at hl 2 rfl) ?_
  have hPc := hP.sub (ws' := []) [] rfl
  have hDc := hD.sub (ws' := []) [] (by decide) rfl
  have hFc := va_free (wc := []) hD hS hA [] rfl
  refine va_calli (va_runS (As := [.int p1, .int p2]) (rest := []) ⟨hx, hb, hml, hown, hts⟩ (mt_X0_isSheet l G  s.heap.size  p1 p2 _ hw) (va_cwS 2 hts (lw_S q648 q649 q54 q650) rfl rfl rfl (by decide +kernel) ⟨Nat.le_of_ble_eq_true rfl, Nat.le_of_ble_eq_true rfl⟩) ⟨fun a U g mk q => by obtain ⟨q0, q1, qP, qK, qD⟩ := q; exact ⟨q0, q1, qP, qK.call, qD⟩, fun U hU hW => ⟨rfl, by rw [hU], by rw [hU]; exact hPc, hK.warm hW, hDc.weaken (fun _ _ _ _ => trivial)⟩⟩ rfl rfl hl.1 rfl (lv_room (Nat.le_of_ble_eq_true rfl)) dX0_sheet_2 ⟨Nat.le_of_ble_eq_true rfl, Nat.le_of_ble_eq_true rfl⟩) hS (fun q _ h => hFc q h) hFc (fun r_1 _ t H1 locs ht hvm hw hB hz1 hk1 hS => ?_)
  obtain ⟨hP1, hD1⟩ := hB
  rw [ht] at hP1
  obtain ⟨hP, hD⟩ := va_join (wr := [oc h 0 [.ref h_kinds, .ref h_now, .ref h_fault, .ref h_tape, .int taped, .int reads, .ref h_got, .ref h_failing, .ref h_past, .int undoMany, .ref h_aside, .ref h_best, .ref h_tried, .ref h_kept, .ref h_keptPast, .int keptMany, .int isKept, .ref h_sheets], arf G h_sheets 7 4 shf, oc h_sheets_x 8 [(va_rf rv)]]) (w1 := []) hP hD [] [0, 1, 2] rfl rfl (by decide) (by decide) hk1 hFc hP1 hD1
  clear hPc hDc hFc hP1 hD1 hz1 hk1 hvm
  generalize H1 = H at hP hS ⊢
  have hP : va_P G.1 gCl [oc h 0 [.ref h_kinds, .ref h_now, .ref h_fault, .ref h_tape, .int taped, .int reads, .ref h_got, .ref h_failing, .ref h_past, .int undoMany, .ref h_aside, .ref h_best, .ref h_tried, .ref h_kept, .ref h_keptPast, .int keptMany, .int isKept, .ref h_sheets], arf G h_sheets 7 4 shf, oc h_sheets_x 8 [(va_rf rv)]] H := hP
  have hD : va_D A [oc h 0 [.ref h_kinds, .ref h_now, .ref h_fault, .ref h_tape, .int taped, .int reads, .ref h_got, .ref h_failing, .ref h_past, .int undoMany, .ref h_aside, .ref h_best, .ref h_tried, .ref h_kept, .ref h_keptPast, .int keptMany, .int isKept, .ref h_sheets], arf G h_sheets 7 4 shf, oc h_sheets_x 8 [(va_rf rv)]] := hD
  refine lv_if_eq (tgt := 14) hx hb dX0_sheet_5 (by decide) (fun c_2 => ?_) (fun c_2 => ?_)
  · replace hw := hw.1 c_2
    refine lv_iconst (v := (-1 : Int32)) hx hb dX0_sheet_14 (by decide) ?_
    have hP9 := hP
    have hD9 := hD
    exact w_widen (k := 3) (n := 1010) (by first | exact Nat.le_of_ble_eq_true rfl | omega) (by first | exact Nat.le_of_ble_eq_true rfl | omega) (W.iret (v := (-1 : Int32)) hx hb hr (fun t ht hW => ⟨⟨(-1 : Int32), (rv, []), rfl, hw, by rw [ht]; exact hP9, hD9⟩, hS.F ht⟩) hS.2.2 dX0_sheet_15)
  · replace hw := hw.2 c_2
    refine lv_iload_n hx hb dX0_sheet_8 rfl (lv_at hl 3 rfl) ?_
    refine lv_bipush (v := (24 : Int32)) hx hb dX0_sheet_9 (by decide) ?_
    refine lv_icmp_le (tgt := 16) hx hb dX0_sheet_11 (by decide) (fun c_3 => ?_) (fun c_3 => ?_)
    · replace hw := hw.1 c_3
      refine lv_aload_n hx hb dX0_sheet_16 rfl (lv_at hl 0 rfl) ?_
      refine va_get (D := G.1) (ci := 0) (v := .ref h_sheets) (C := RX0) (T := TX0) (N := 18) hx hb hts in_X0 hown hK.1 hP 0 rfl rfl 17 (by decide) (hts _ q273) (fun _ h9 => h9) rfl dX0_sheet_17 ?_
      refine lv_iload_n hx hb dX0_sheet_20 rfl (lv_at hl 1 rfl) ?_
      obtain ⟨i_4, hw⟩ := hw
      refine z_aaldS hx hb hK.1 hP 1 7 rfl rfl i_4 dX0_sheet_21 hsh ?_
      refine lv_iload_n hx hb dX0_sheet_22 rfl (lv_at hl 2 rfl) ?_
      refine lv_if_ne (tgt := 32) hx hb dX0_sheet_23 (by decide) (fun c_5 => ?_) (fun c_5 => ?_)
      · replace hw := hw.1 c_5
        refine lv_iload_n hx hb dX0_sheet_32 rfl (lv_at hl 2 rfl) ?_
        refine lv_iconst (v := (1 : Int32)) hx hb dX0_sheet_33 (by decide) ?_
        refine lv_icmp_ne (tgt := 43) hx hb dX0_sheet_34 (by decide) (fun c_6 => ?_) (fun c_6 => ?_)
        · replace hw := hw.1 c_6
          refine lv_iload_n hx hb dX0_sheet_43 rfl (lv_at hl 2 rfl) ?_
          refine lv_iconst (v := (2 : Int32)) hx hb dX0_sheet_44 (by decide) ?_
          refine lv_icmp_ne (tgt := 54) hx hb dX0_sheet_45 (by decide) (fun c_7 => ?_) (fun c_7 => ?_)
          · replace hw := hw.1 c_7
            refine lv_iload_n hx hb dX0_sheet_54 rfl (lv_at hl 3 rfl) ?_
            by_cases c_8 : p3 < 0
            · replace hw := hw.1 c_8
              refine w_neg hx hb (hml.trans hl.1.symm) hts hK hX hS hP c_8 dX0_sheet_55 (Nat.le_of_ble_eq_true rfl) (Nat.le_of_ble_eq_true rfl) (Nat.le_of_ble_eq_true rfl) (Nat.le_of_ble_eq_true rfl) (Nat.le_of_ble_eq_true rfl) (fun x_9 H hxo hP hS hz hk => ?_)
              obtain ⟨ce, hce, hcv, hcc⟩ := hxo
              refine wx_catch (cell := ce) hce (by rw [hcv]; rfl) [] ⟨16, 60, 63, 352⟩ [] hhd (fun _ _ z hz => by cases hz) (by decide) (by decide) hown (hts _ q694) (cT := ce.cls) hcc (vm_refl (args := #[]) (hK.n q714 rfl) hcc) ?_
              refine lv_astore (lv' := [(4, .ref x_9), (0, .ref h), (1, .int p1), (2, .int p2), (3, .int p3)]) hx hb dX0_sheet_63 hl (by decide) rfl (fun ls hl => ?_)
              refine lv_bipush (v := (-14 : Int32)) hx hb dX0_sheet_65 (by decide) ?_
              have hP9 := hP
              have hD9 := hD
              exact w_widen (k := 3) (n := 1010) (by first | exact Nat.le_of_ble_eq_true rfl | omega) (by first | exact Nat.le_of_ble_eq_true rfl | omega) (W.iret (v := (-14 : Int32)) hx hb hr (fun t ht hW => ⟨⟨(-14 : Int32), (rv, []), rfl, hw, by rw [ht]; exact hP9, hD9⟩, hS.F ht⟩) hS.2.2 dX0_sheet_67)
            · obtain ⟨i_11, hw⟩ := hw.2 c_8
              refine va_newa (atype := .long) hx hb (hts _ q725) (ty := .long) rfl hK.1 hP hD hS hA (N' := p3.toNatClampNeg) (a0 := (p3.toNatClampNeg, .inr (.inl (fun _ => 0)))) (fun _ => rfl) c_8 rfl (by simp only [componentBytes]; omega) (Nat.le_of_ble_eq_true rfl) (by show 0 + _ ≤ 1010; omega) dX0_sheet_55 (fun q_10 cA H hK1 hP hD hS => ?_)
              replace hw := hw q_10
              cases x_same hK.1 hK1 1 rfl
              have hP : va_P G.1 gCl [oc h 0 [.ref h_kinds, .ref h_now, .ref h_fault, .ref h_tape, .int taped, .int reads, .ref h_got, .ref h_failing, .ref h_past, .int undoMany, .ref h_aside, .ref h_best, .ref h_tried, .ref h_kept, .ref h_keptPast, .int keptMany, .int isKept, .ref h_sheets], arf G h_sheets 7 4 shf, oc h_sheets_x 8 [(va_rf rv)], al G q_10 p3.toNatClampNeg (fun _ => 0)] H := hP
              have hD : va_D A [oc h 0 [.ref h_kinds, .ref h_now, .ref h_fault, .ref h_tape, .int taped, .int reads, .ref h_got, .ref h_failing, .ref h_past, .int undoMany, .ref h_aside, .ref h_best, .ref h_tried, .ref h_kept, .ref h_keptPast, .int keptMany, .int isKept, .ref h_sheets], arf G h_sheets 7 4 shf, oc h_sheets_x 8 [(va_rf rv)], al G q_10 p3.toNatClampNeg (fun _ => 0)] := hD
              refine va_putN (D := G.1) (ci := 8) (v := .ref q_10) (ty := (.object "java/lang/Object")) (C := RX8) (T := TX8) (N := 1) hx hb hts in_X8 tyX8 tyX8_ok nmX8 hown hK.1 hP hD hS 2 rfl rfl 0 (by decide) (hK.n q251 rfl) (fun _ h9 => h9) rfl (by decide +kernel) rfl rfl (Nat.le_of_ble_eq_true rfl) dX0_sheet_57 (fun H locs hP hD hS => ?_)
              have hP : va_P G.1 gCl [oc h 0 [.ref h_kinds, .ref h_now, .ref h_fault, .ref h_tape, .int taped, .int reads, .ref h_got, .ref h_failing, .ref h_past, .int undoMany, .ref h_aside, .ref h_best, .ref h_tried, .ref h_kept, .ref h_keptPast, .int keptMany, .int isKept, .ref h_sheets], arf G h_sheets 7 4 shf, oc h_sheets_x 8 [.ref q_10], al G q_10 p3.toNatClampNeg (fun _ => 0)] H := hP
              have hD : va_D A [oc h 0 [.ref h_kinds, .ref h_now, .ref h_fault, .ref h_tape, .int taped, .int reads, .ref h_got, .ref h_failing, .ref h_past, .int undoMany, .ref h_aside, .ref h_best, .ref h_tried, .ref h_kept, .ref h_keptPast, .int keptMany, .int isKept, .ref h_sheets], arf G h_sheets 7 4 shf, oc h_sheets_x 8 [.ref q_10], al G q_10 p3.toNatClampNeg (fun _ => 0)] := hD
              refine lv_goto (tgt := 68) hx hb dX0_sheet_60 (by decide) ?_
              refine lv_iload_n hx hb dX0_sheet_68 rfl (lv_at hl 3 rfl) ?_
              have hP9 := hP
              have hD9 := hD
              exact w_widen (k := 3) (n := 1010) (by first | exact Nat.le_of_ble_eq_true rfl | omega) (by first | exact Nat.le_of_ble_eq_true rfl | omega) (W.iret (v := p3) hx hb hr (fun t ht hW => ⟨⟨p3, ((some q_10), [al G q_10 p3.toNatClampNeg (fun _ => 0)]), rfl, hw, by rw [ht]; exact hP9, hD9⟩, hS.F ht⟩) hS.2.2 dX0_sheet_69)
          · replace hw := hw.2 c_7
            refine lv_iload_n hx hb dX0_sheet_48 rfl (lv_at hl 3 rfl) ?_
            by_cases c_12 : p3 < 0
            · replace hw := hw.1 c_12
              refine w_neg hx hb (hml.trans hl.1.symm) hts hK hX hS hP c_12 dX0_sheet_49 (Nat.le_of_ble_eq_true rfl) (Nat.le_of_ble_eq_true rfl) (Nat.le_of_ble_eq_true rfl) (Nat.le_of_ble_eq_true rfl) (Nat.le_of_ble_eq_true rfl) (fun x_13 H hxo hP hS hz hk => ?_)
              obtain ⟨ce, hce, hcv, hcc⟩ := hxo
              refine wx_catch (cell := ce) hce (by rw [hcv]; rfl) [] ⟨16, 60, 63, 352⟩ [] hhd (fun _ _ z hz => by cases hz) (by decide) (by decide) hown (hts _ q694) (cT := ce.cls) hcc (vm_refl (args := #[]) (hK.n q714 rfl) hcc) ?_
              refine lv_astore (lv' := [(4, .ref x_13), (0, .ref h), (1, .int p1), (2, .int p2), (3, .int p3)]) hx hb dX0_sheet_63 hl (by decide) rfl (fun ls hl => ?_)
              refine lv_bipush (v := (-14 : Int32)) hx hb dX0_sheet_65 (by decide) ?_
              have hP9 := hP
              have hD9 := hD
              exact w_widen (k := 3) (n := 1010) (by first | exact Nat.le_of_ble_eq_true rfl | omega) (by first | exact Nat.le_of_ble_eq_true rfl | omega) (W.iret (v := (-14 : Int32)) hx hb hr (fun t ht hW => ⟨⟨(-14 : Int32), (rv, []), rfl, hw, by rw [ht]; exact hP9, hD9⟩, hS.F ht⟩) hS.2.2 dX0_sheet_67)
            · obtain ⟨i_15, hw⟩ := hw.2 c_12
              refine va_newa (atype := .int) hx hb (hts _ q161) (ty := .int) rfl hK.1 hP hD hS hA (N' := p3.toNatClampNeg) (a0 := (p3.toNatClampNeg, .inl (fun _ => 0))) (fun _ => rfl) c_12 rfl (by simp only [componentBytes]; omega) (Nat.le_of_ble_eq_true rfl) (by show 0 + _ ≤ 1010; omega) dX0_sheet_49 (fun q_14 cA H hK1 hP hD hS => ?_)
              replace hw := hw q_14
              cases x_same hK.1 hK1 0 rfl
              have hP : va_P G.1 gCl [oc h 0 [.ref h_kinds, .ref h_now, .ref h_fault, .ref h_tape, .int taped, .int reads, .ref h_got, .ref h_failing, .ref h_past, .int undoMany, .ref h_aside, .ref h_best, .ref h_tried, .ref h_kept, .ref h_keptPast, .int keptMany, .int isKept, .ref h_sheets], arf G h_sheets 7 4 shf, oc h_sheets_x 8 [(va_rf rv)], ai G q_14 p3.toNatClampNeg (fun _ => 0)] H := hP
              have hD : va_D A [oc h 0 [.ref h_kinds, .ref h_now, .ref h_fault, .ref h_tape, .int taped, .int reads, .ref h_got, .ref h_failing, .ref h_past, .int undoMany, .ref h_aside, .ref h_best, .ref h_tried, .ref h_kept, .ref h_keptPast, .int keptMany, .int isKept, .ref h_sheets], arf G h_sheets 7 4 shf, oc h_sheets_x 8 [(va_rf rv)], ai G q_14 p3.toNatClampNeg (fun _ => 0)] := hD
              refine lv_goto (tgt := 57) hx hb dX0_sheet_51 (by decide) ?_
              refine va_putN (D := G.1) (ci := 8) (v := .ref q_14) (ty := (.object "java/lang/Object")) (C := RX8) (T := TX8) (N := 1) hx hb hts in_X8 tyX8 tyX8_ok nmX8 hown hK.1 hP hD hS 2 rfl rfl 0 (by decide) (hK.n q251 rfl) (fun _ h9 => h9) rfl (by decide +kernel) rfl rfl (Nat.le_of_ble_eq_true rfl) dX0_sheet_57 (fun H locs hP hD hS => ?_)
              have hP : va_P G.1 gCl [oc h 0 [.ref h_kinds, .ref h_now, .ref h_fault, .ref h_tape, .int taped, .int reads, .ref h_got, .ref h_failing, .ref h_past, .int undoMany, .ref h_aside, .ref h_best, .ref h_tried, .ref h_kept, .ref h_keptPast, .int keptMany, .int isKept, .ref h_sheets], arf G h_sheets 7 4 shf, oc h_sheets_x 8 [.ref q_14], ai G q_14 p3.toNatClampNeg (fun _ => 0)] H := hP
              have hD : va_D A [oc h 0 [.ref h_kinds, .ref h_now, .ref h_fault, .ref h_tape, .int taped, .int reads, .ref h_got, .ref h_failing, .ref h_past, .int undoMany, .ref h_aside, .ref h_best, .ref h_tried, .ref h_kept, .ref h_keptPast, .int keptMany, .int isKept, .ref h_sheets], arf G h_sheets 7 4 shf, oc h_sheets_x 8 [.ref q_14], ai G q_14 p3.toNatClampNeg (fun _ => 0)] := hD
              refine lv_goto (tgt := 68) hx hb dX0_sheet_60 (by decide) ?_
              refine lv_iload_n hx hb dX0_sheet_68 rfl (lv_at hl 3 rfl) ?_
              have hP9 := hP
              have hD9 := hD
              exact w_widen (k := 3) (n := 1010) (by first | exact Nat.le_of_ble_eq_true rfl | omega) (by first | exact Nat.le_of_ble_eq_true rfl | omega) (W.iret (v := p3) hx hb hr (fun t ht hW => ⟨⟨p3, ((some q_14), [ai G q_14 p3.toNatClampNeg (fun _ => 0)]), rfl, hw, by rw [ht]; exact hP9, hD9⟩, hS.F ht⟩) hS.2.2 dX0_sheet_69)
        · replace hw := hw.2 c_6
          refine lv_iload_n hx hb dX0_sheet_37 rfl (lv_at hl 3 rfl) ?_
          by_cases c_16 : p3 < 0
          · replace hw := hw.1 c_16
            refine w_neg hx hb (hml.trans hl.1.symm) hts hK hX hS hP c_16 dX0_sheet_38 (Nat.le_of_ble_eq_true rfl) (Nat.le_of_ble_eq_true rfl) (Nat.le_of_ble_eq_true rfl) (Nat.le_of_ble_eq_true rfl) (Nat.le_of_ble_eq_true rfl) (fun x_17 H hxo hP hS hz hk => ?_)
            obtain ⟨ce, hce, hcv, hcc⟩ := hxo
            refine wx_catch (cell := ce) hce (by rw [hcv]; rfl) [] ⟨16, 60, 63, 352⟩ [] hhd (fun _ _ z hz => by cases hz) (by decide) (by decide) hown (hts _ q694) (cT := ce.cls) hcc (vm_refl (args := #[]) (hK.n q714 rfl) hcc) ?_
            refine lv_astore (lv' := [(4, .ref x_17), (0, .ref h), (1, .int p1), (2, .int p2), (3, .int p3)]) hx hb dX0_sheet_63 hl (by decide) rfl (fun ls hl => ?_)
            refine lv_bipush (v := (-14 : Int32)) hx hb dX0_sheet_65 (by decide) ?_
            have hP9 := hP
            have hD9 := hD
            exact w_widen (k := 3) (n := 1010) (by first | exact Nat.le_of_ble_eq_true rfl | omega) (by first | exact Nat.le_of_ble_eq_true rfl | omega) (W.iret (v := (-14 : Int32)) hx hb hr (fun t ht hW => ⟨⟨(-14 : Int32), (rv, []), rfl, hw, by rw [ht]; exact hP9, hD9⟩, hS.F ht⟩) hS.2.2 dX0_sheet_67)
          · obtain ⟨i_19, hw⟩ := hw.2 c_16
            refine va_newa (atype := .short) hx hb (hts _ q724) (ty := .short) rfl hK.1 hP hD hS hA (N' := p3.toNatClampNeg) (a0 := (p3.toNatClampNeg, .inl (fun _ => 0))) (fun _ => rfl) c_16 rfl (by simp only [componentBytes]; omega) (Nat.le_of_ble_eq_true rfl) (by show 0 + _ ≤ 1010; omega) dX0_sheet_38 (fun q_18 cA H hK1 hP hD hS => ?_)
            replace hw := hw q_18
            cases x_same hK.1 hK1 4 rfl
            have hP : va_P G.1 gCl [oc h 0 [.ref h_kinds, .ref h_now, .ref h_fault, .ref h_tape, .int taped, .int reads, .ref h_got, .ref h_failing, .ref h_past, .int undoMany, .ref h_aside, .ref h_best, .ref h_tried, .ref h_kept, .ref h_keptPast, .int keptMany, .int isKept, .ref h_sheets], arf G h_sheets 7 4 shf, oc h_sheets_x 8 [(va_rf rv)], ah G q_18 p3.toNatClampNeg (fun _ => 0)] H := hP
            have hD : va_D A [oc h 0 [.ref h_kinds, .ref h_now, .ref h_fault, .ref h_tape, .int taped, .int reads, .ref h_got, .ref h_failing, .ref h_past, .int undoMany, .ref h_aside, .ref h_best, .ref h_tried, .ref h_kept, .ref h_keptPast, .int keptMany, .int isKept, .ref h_sheets], arf G h_sheets 7 4 shf, oc h_sheets_x 8 [(va_rf rv)], ah G q_18 p3.toNatClampNeg (fun _ => 0)] := hD
            refine lv_goto (tgt := 57) hx hb dX0_sheet_40 (by decide) ?_
            refine va_putN (D := G.1) (ci := 8) (v := .ref q_18) (ty := (.object "java/lang/Object")) (C := RX8) (T := TX8) (N := 1) hx hb hts in_X8 tyX8 tyX8_ok nmX8 hown hK.1 hP hD hS 2 rfl rfl 0 (by decide) (hK.n q251 rfl) (fun _ h9 => h9) rfl (by decide +kernel) rfl rfl (Nat.le_of_ble_eq_true rfl) dX0_sheet_57 (fun H locs hP hD hS => ?_)
            have hP : va_P G.1 gCl [oc h 0 [.ref h_kinds, .ref h_now, .ref h_fault, .ref h_tape, .int taped, .int reads, .ref h_got, .ref h_failing, .ref h_past, .int undoMany, .ref h_aside, .ref h_best, .ref h_tried, .ref h_kept, .ref h_keptPast, .int keptMany, .int isKept, .ref h_sheets], arf G h_sheets 7 4 shf, oc h_sheets_x 8 [.ref q_18], ah G q_18 p3.toNatClampNeg (fun _ => 0)] H := hP
            have hD : va_D A [oc h 0 [.ref h_kinds, .ref h_now, .ref h_fault, .ref h_tape, .int taped, .int reads, .ref h_got, .ref h_failing, .ref h_past, .int undoMany, .ref h_aside, .ref h_best, .ref h_tried, .ref h_kept, .ref h_keptPast, .int keptMany, .int isKept, .ref h_sheets], arf G h_sheets 7 4 shf, oc h_sheets_x 8 [.ref q_18], ah G q_18 p3.toNatClampNeg (fun _ => 0)] := hD
            refine lv_goto (tgt := 68) hx hb dX0_sheet_60 (by decide) ?_
            refine lv_iload_n hx hb dX0_sheet_68 rfl (lv_at hl 3 rfl) ?_
            have hP9 := hP
            have hD9 := hD
            exact w_widen (k := 3) (n := 1010) (by first | exact Nat.le_of_ble_eq_true rfl | omega) (by first | exact Nat.le_of_ble_eq_true rfl | omega) (W.iret (v := p3) hx hb hr (fun t ht hW => ⟨⟨p3, ((some q_18), [ah G q_18 p3.toNatClampNeg (fun _ => 0)]), rfl, hw, by rw [ht]; exact hP9, hD9⟩, hS.F ht⟩) hS.2.2 dX0_sheet_69)
      · replace hw := hw.2 c_5
        refine lv_iload_n hx hb dX0_sheet_26 rfl (lv_at hl 3 rfl) ?_
        by_cases c_20 : p3 < 0
        · replace hw := hw.1 c_20
          refine w_neg hx hb (hml.trans hl.1.symm) hts hK hX hS hP c_20 dX0_sheet_27 (Nat.le_of_ble_eq_true rfl) (Nat.le_of_ble_eq_true rfl) (Nat.le_of_ble_eq_true rfl) (Nat.le_of_ble_eq_true rfl) (Nat.le_of_ble_eq_true rfl) (fun x_21 H hxo hP hS hz hk => ?_)
          obtain ⟨ce, hce, hcv, hcc⟩ := hxo
          refine wx_catch (cell := ce) hce (by rw [hcv]; rfl) [] ⟨16, 60, 63, 352⟩ [] hhd (fun _ _ z hz => by cases hz) (by decide) (by decide) hown (hts _ q694) (cT := ce.cls) hcc (vm_refl (args := #[]) (hK.n q714 rfl) hcc) ?_
          refine lv_astore (lv' := [(4, .ref x_21), (0, .ref h), (1, .int p1), (2, .int p2), (3, .int p3)]) hx hb dX0_sheet_63 hl (by decide) rfl (fun ls hl => ?_)
          refine lv_bipush (v := (-14 : Int32)) hx hb dX0_sheet_65 (by decide) ?_
          have hP9 := hP
          have hD9 := hD
          exact w_widen (k := 3) (n := 1010) (by first | exact Nat.le_of_ble_eq_true rfl | omega) (by first | exact Nat.le_of_ble_eq_true rfl | omega) (W.iret (v := (-14 : Int32)) hx hb hr (fun t ht hW => ⟨⟨(-14 : Int32), (rv, []), rfl, hw, by rw [ht]; exact hP9, hD9⟩, hS.F ht⟩) hS.2.2 dX0_sheet_67)
        · obtain ⟨i_23, hw⟩ := hw.2 c_20
          refine va_newa (atype := .byte) hx hb (hts _ q719) (ty := .byte) rfl hK.1 hP hD hS hA (N' := p3.toNatClampNeg) (a0 := (p3.toNatClampNeg, .inl (fun _ => 0))) (fun _ => rfl) c_20 rfl (by simp only [componentBytes]; omega) (Nat.le_of_ble_eq_true rfl) (by show 0 + _ ≤ 1010; omega) dX0_sheet_27 (fun q_22 cA H hK1 hP hD hS => ?_)
          replace hw := hw q_22
          cases x_same hK.1 hK1 3 rfl
          have hP : va_P G.1 gCl [oc h 0 [.ref h_kinds, .ref h_now, .ref h_fault, .ref h_tape, .int taped, .int reads, .ref h_got, .ref h_failing, .ref h_past, .int undoMany, .ref h_aside, .ref h_best, .ref h_tried, .ref h_kept, .ref h_keptPast, .int keptMany, .int isKept, .ref h_sheets], arf G h_sheets 7 4 shf, oc h_sheets_x 8 [(va_rf rv)], ay G q_22 p3.toNatClampNeg (fun _ => 0)] H := hP
          have hD : va_D A [oc h 0 [.ref h_kinds, .ref h_now, .ref h_fault, .ref h_tape, .int taped, .int reads, .ref h_got, .ref h_failing, .ref h_past, .int undoMany, .ref h_aside, .ref h_best, .ref h_tried, .ref h_kept, .ref h_keptPast, .int keptMany, .int isKept, .ref h_sheets], arf G h_sheets 7 4 shf, oc h_sheets_x 8 [(va_rf rv)], ay G q_22 p3.toNatClampNeg (fun _ => 0)] := hD
          refine lv_goto (tgt := 57) hx hb dX0_sheet_29 (by decide) ?_
          refine va_putN (D := G.1) (ci := 8) (v := .ref q_22) (ty := (.object "java/lang/Object")) (C := RX8) (T := TX8) (N := 1) hx hb hts in_X8 tyX8 tyX8_ok nmX8 hown hK.1 hP hD hS 2 rfl rfl 0 (by decide) (hK.n q251 rfl) (fun _ h9 => h9) rfl (by decide +kernel) rfl rfl (Nat.le_of_ble_eq_true rfl) dX0_sheet_57 (fun H locs hP hD hS => ?_)
          have hP : va_P G.1 gCl [oc h 0 [.ref h_kinds, .ref h_now, .ref h_fault, .ref h_tape, .int taped, .int reads, .ref h_got, .ref h_failing, .ref h_past, .int undoMany, .ref h_aside, .ref h_best, .ref h_tried, .ref h_kept, .ref h_keptPast, .int keptMany, .int isKept, .ref h_sheets], arf G h_sheets 7 4 shf, oc h_sheets_x 8 [.ref q_22], ay G q_22 p3.toNatClampNeg (fun _ => 0)] H := hP
          have hD : va_D A [oc h 0 [.ref h_kinds, .ref h_now, .ref h_fault, .ref h_tape, .int taped, .int reads, .ref h_got, .ref h_failing, .ref h_past, .int undoMany, .ref h_aside, .ref h_best, .ref h_tried, .ref h_kept, .ref h_keptPast, .int keptMany, .int isKept, .ref h_sheets], arf G h_sheets 7 4 shf, oc h_sheets_x 8 [.ref q_22], ay G q_22 p3.toNatClampNeg (fun _ => 0)] := hD
          refine lv_goto (tgt := 68) hx hb dX0_sheet_60 (by decide) ?_
          refine lv_iload_n hx hb dX0_sheet_68 rfl (lv_at hl 3 rfl) ?_
          have hP9 := hP
          have hD9 := hD
          exact w_widen (k := 3) (n := 1010) (by first | exact Nat.le_of_ble_eq_true rfl | omega) (by first | exact Nat.le_of_ble_eq_true rfl | omega) (W.iret (v := p3) hx hb hr (fun t ht hW => ⟨⟨p3, ((some q_22), [ay G q_22 p3.toNatClampNeg (fun _ => 0)]), rfl, hw, by rw [ht]; exact hP9, hD9⟩, hS.F ht⟩) hS.2.2 dX0_sheet_69)
    · replace hw := hw.2 c_3
      refine lv_iconst (v := (-1 : Int32)) hx hb dX0_sheet_14 (by decide) ?_
      have hP9 := hP
      have hD9 := hD
      exact w_widen (k := 3) (n := 1010) (by first | exact Nat.le_of_ble_eq_true rfl | omega) (by first | exact Nat.le_of_ble_eq_true rfl | omega) (W.iret (v := (-1 : Int32)) hx hb hr (fun t ht hW => ⟨⟨(-1 : Int32), (rv, []), rfl, hw, by rw [ht]; exact hP9, hD9⟩, hS.F ht⟩) hS.2.2 dX0_sheet_15)
/-! BattleBench.item(IIIJ)I -/
def wp_X0_item_B (rn : Nat) (rw : Nat → Int32) (p1 : Int32) (p2 : Int32) (p3 : Int32) (p4 : Int64) (Q : Int32 → ((Nat → Int32)) → Prop) : Prop :=
  wp_X0_isSheet  p1 p2 (fun r_1 => ((¬ (r_1 = 0) → (vp_in p1 4 ∧ wp_X8_lay_B_x rn rw p2 p3 p4 (fun u_4 => Q (1 : Int32) u_4) (fun k_6 => (k_6 = 0 ∨ k_6 = 1 ∨ k_6 = 2) ∧ (k_6 = 0 → Q (-11 : Int32) rw) ∧ (k_6 = 1 → Q (-12 : Int32) rw) ∧ (k_6 = 2 → Q (-13 : Int32) rw)))) ∧ ((r_1 = 0) → Q (-1 : Int32) rw)))
set_option maxHeartbeats 4000000 in
theorem mt_X0_item_B (l : Launch) (G : GT) (aS : Nat) (hfl : l.flags = pinnedFlags ++ [noTraceFlag]) (h h_kinds h_now h_fault h_tape h_got h_failing h_past h_aside h_best h_tried h_kept h_keptPast h_sheets h_sheets_x h_sheets_x_r : Nat) (shf : Nat → Option Nat) (sz : Nat) (taped : Int32) (reads : Int32) (undoMany : Int32) (keptMany : Int32) (isKept : Int32) (rn : Nat) (rw : Nat → Int32) (p1 : Int32) (p2 : Int32) (p3 : Int32) (p4 : Int64)(hsh : shf p1.toNatClampNeg = some h_sheets_x) (Q : Int32 → ((Nat → Int32)) → Prop) (hw : wp_X0_item_B rn rw p1 p2 p3 p4 Q) : Met l yX0_item (wsW_ yX0_item cX0_item 7 (some .int) [(10, 23, 26, 354), (10, 23, 31, 356), (10, 23, 36, 358)]) ({ frames := 9, cells := 3, slots := 1010, locals := 10272 } : Room) (va_Pc [.ref h, .int p1, .int p2, .int p3, .long p4] (fun U => U.heap.size = sz ∧ va_P G.1 gCl [oc h 0 [.ref h_kinds, .ref h_now, .ref h_fault, .ref h_tape, .int taped, .int reads, .ref h_got, .ref h_failing, .ref h_past, .int undoMany, .ref h_aside, .ref h_best, .ref h_tried, .ref h_kept, .ref h_keptPast, .int keptMany, .int isKept, .ref h_sheets], arf G h_sheets 7 4 shf, oc h_sheets_x 8 [.ref h_sheets_x_r], ay G h_sheets_x_r rn rw] U.heap ∧ gK G U ∧ va_D (fun _ => True) [oc h 0 [.ref h_kinds, .ref h_now, .ref h_fault, .ref h_tape, .int taped, .int reads, .ref h_got, .ref h_failing, .ref h_past, .int undoMany, .ref h_aside, .ref h_best, .ref h_tried, .ref h_kept, .ref h_keptPast, .int keptMany, .int isKept, .ref h_sheets], arf G h_sheets 7 4 shf, oc h_sheets_x 8 [.ref h_sheets_x_r], ay G h_sheets_x_r rn rw] ∧ stS aS U)) ((fun A => (va_Qi (fun (r : Int32) (u : (Nat → Int32)) => Q r u) (fun u t => va_P G.1 gCl [oc h 0 [.ref h_kinds, .ref h_now, .ref h_fault, .ref h_tape, .int taped, .int reads, .ref h_got, .ref h_failing, .ref h_past, .int undoMany, .ref h_aside, .ref h_best, .ref h_tried, .ref h_kept, .ref h_keptPast, .int keptMany, .int isKept, .ref h_sheets], arf G h_sheets 7 4 shf, oc h_sheets_x 8 [.ref h_sheets_x_r], ay G h_sheets_x_r rn u] t.heap ∧ va_D A [oc h 0 [.ref h_kinds, .ref h_now, .ref h_fault, .ref h_tape, .int taped, .int reads, .ref h_got, .ref h_failing, .ref h_past, .int undoMany, .ref h_aside, .ref h_best, .ref h_tried, .ref h_kept, .ref h_keptPast, .int keptMany, .int isKept, .ref h_sheets], arf G h_sheets 7 4 shf, oc h_sheets_x 8 [.ref h_sheets_x_r], ay G h_sheets_x_r rn u]) A)) (va_A [oc h 0 [.ref h_kinds, .ref h_now, .ref h_fault, .ref h_tape, .int taped, .int reads, .ref h_got, .ref h_failing, .ref h_past, .int undoMany, .ref h_aside, .ref h_best, .ref h_tried, .ref h_kept, .ref h_keptPast, .int keptMany, .int isKept, .ref h_sheets], arf G h_sheets 7 4 shf, oc h_sheets_x 8 [.ref h_sheets_x_r], ay G h_sheets_x_r rn rw] sz)) 3 1010 (va_A [oc h 0 [.ref h_kinds, .ref h_now, .ref h_fault, .ref h_tape, .int taped, .int reads, .ref h_got, .ref h_failing, .ref h_past, .int undoMany, .ref h_aside, .ref h_best, .ref h_tried, .ref h_kept, .ref h_keptPast, .int keptMany, .int isKept, .ref h_sheets], arf G h_sheets 7 4 shf, oc h_sheets_x 8 [.ref h_sheets_x_r], ay G h_sheets_x_r rn rw] sz) := by
  refine va_MetW (hh := [(10, 23, 26, 354), (10, 23, 31, 356), (10, 23, 36, 358)]) (cc := cX0_item) (maxL := 7) (ret := (some .int)) (by decide) rfl ?_
  intro p e s m args below meth c s₁ B hml hv
  obtain ⟨rfl, hsz, hP, hK, hD0, hst⟩ := hv
  have hx := B.exec
  have hb := B.bytes
  have hr := B.returns
  have hts := atoms_spec (ws := (wsW_ yX0_item cX0_item 7 (some .int) [(10, 23, 26, 354), (10, 23, 31, 356), (10, 23, 36, 358)])) B.pre
  have hts : ∀ w ∈ lw_all, w.before _ s = true := fun w h => hts w (List.mem_cons_of_mem _ h)
  have hown : s.vm.findClass RX0 = some m.cls := findClass_of_methodNamed B.named
  have hlocks := B.notSynchronized
  have hhd : c.exceptionTable.toList = [⟨10, 23, 26, 354⟩, ⟨10, 23, 31, 356⟩, ⟨10, 23, 36, 358⟩] := x_hand B (atoms_spec (ws := (wsW_ yX0_item cX0_item 7 (some .int) [(10, 23, 26, 354), (10, 23, 31, 356), (10, 23, 36, 358)])) B.pre _ List.mem_cons_self)
  subst hsz
  have hD := hD0.self (sz := s.heap.size)
  generalize hAe : va_A [oc h 0 [.ref h_kinds, .ref h_now, .ref h_fault, .ref h_tape, .int taped, .int reads, .ref h_got, .ref h_failing, .ref h_past, .int undoMany, .ref h_aside, .ref h_best, .ref h_tried, .ref h_kept, .ref h_keptPast, .int keptMany, .int isKept, .ref h_sheets], arf G h_sheets 7 4 shf, oc h_sheets_x 8 [.ref h_sheets_x_r], ay G h_sheets_x_r rn rw] s.heap.size = A at hD ⊢
  have hA : ∀ q : Nat, s.heap.size ≤ q → A q := fun q h => by rw [← hAe]; exact Or.inr h
  have hS : va_S A s.heap s.heap [] := va_S.rf
  have hX : XCx l aS s A := ⟨hfl, hst, fun q cell hq hc => va_A.ns hP (by rw [hAe]; exact hq) hc⟩
  have C : Cx p s m meth c cX0_item 7 (some .int) RX0 ([.ref h, .int p1, .int p2, .int p3, .long p4] : List Value).toArray G A := ⟨hx, hb, hr, hlocks, hml, hown, hts, hK, hA⟩
  have hl := lv_entry ([.ref h, .int p1, .int p2, .int p3, .long p4]) (n := 7) (Nat.le_of_ble_eq_true rfl)
  rw [lg_entry_eq]
  generalize (lg_sl ([.ref h, .int p1, .int p2, .int p3, .long p4]) ++ List.replicate (7 - (lg_sl ([.ref h, .int p1, .int p2, .int p3, .long p4])).length) Slot.unset).toArray = ls at hl ⊢
  have hl : lv_has ls 7 [(0, .ref h), (1, .int p1), (2, .int p2), (3, .int p3), (4, .long p4)] := hl
  unfold wp_X0_item_B at hw
  refine lv_iload_n hx hb dX0_item_0 rfl (lv_at hl 1 rfl) ?_
  refine lv_iload_n hx hb dX0_item_1 rfl (lv_at hl 2 rfl) ?_
  have hPc := hP.sub (ws' := []) [] rfl
  have hDc := hD.sub (ws' := []) [] (by decide) rfl
  have hFc := va_free (wc := []) hD hS hA [] rfl
  refine va_calli (va_runS (As := [.int p1, .int p2]) (rest := []) ⟨hx, hb, hml, hown, hts⟩ (mt_X0_isSheet l G  s.heap.size  p1 p2 _ hw) (va_cwS 2 hts (lw_S q648 q649 q54 q650) rfl rfl rfl (by decide +kernel) ⟨Nat.le_of_ble_eq_true rfl, Nat.le_of_ble_eq_true rfl⟩) ⟨fun a U g mk q => by obtain ⟨q0, q1, qP, qK, qD⟩ := q; exact ⟨q0, q1, qP, qK.call, qD⟩, fun U hU hW => ⟨rfl, by rw [hU], by rw [hU]; exact hPc, hK.warm hW, hDc.weaken (fun _ _ _ _ => trivial)⟩⟩ rfl rfl hl.1 rfl (lv_room (Nat.le_of_ble_eq_true rfl)) dX0_item_2 ⟨Nat.le_of_ble_eq_true rfl, Nat.le_of_ble_eq_true rfl⟩) hS (fun q _ h => hFc q h) hFc (fun r_1 _ t H1 locs ht hvm hw hB hz1 hk1 hS => ?_)
  obtain ⟨hP1, hD1⟩ := hB
  rw [ht] at hP1
  obtain ⟨hP, hD⟩ := va_join (wr := [oc h 0 [.ref h_kinds, .ref h_now, .ref h_fault, .ref h_tape, .int taped, .int reads, .ref h_got, .ref h_failing, .ref h_past, .int undoMany, .ref h_aside, .ref h_best, .ref h_tried, .ref h_kept, .ref h_keptPast, .int keptMany, .int isKept, .ref h_sheets], arf G h_sheets 7 4 shf, oc h_sheets_x 8 [.ref h_sheets_x_r], ay G h_sheets_x_r rn rw]) (w1 := []) hP hD [] [0, 1, 2, 3] rfl rfl (by decide) (by decide) hk1 hFc hP1 hD1
  clear hPc hDc hFc hP1 hD1 hz1 hk1 hvm
  generalize H1 = H at hP hS ⊢
  have hP : va_P G.1 gCl [oc h 0 [.ref h_kinds, .ref h_now, .ref h_fault, .ref h_tape, .int taped, .int reads, .ref h_got, .ref h_failing, .ref h_past, .int undoMany, .ref h_aside, .ref h_best, .ref h_tried, .ref h_kept, .ref h_keptPast, .int keptMany, .int isKept, .ref h_sheets], arf G h_sheets 7 4 shf, oc h_sheets_x 8 [.ref h_sheets_x_r], ay G h_sheets_x_r rn rw] H := hP
  have hD : va_D A [oc h 0 [.ref h_kinds, .ref h_now, .ref h_fault, .ref h_tape, .int taped, .int reads, .ref h_got, .ref h_failing, .ref h_past, .int undoMany, .ref h_aside, .ref h_best, .ref h_tried, .ref h_kept, .ref h_keptPast, .int keptMany, .int isKept, .ref h_sheets], arf G h_sheets 7 4 shf, oc h_sheets_x 8 [.ref h_sheets_x_r], ay G h_sheets_x_r rn rw] := hD
  refine lv_if_ne (tgt := 10) hx hb dX0_item_5 (by decide) (fun c_2 => ?_) (fun c_2 => ?_)
  · replace hw := hw.1 c_2
    refine lv_aload_n hx hb dX0_item_10 rfl (lv_at hl 0 rfl) ?_
    refine va_get (D := G.1) (ci := 0) (v := .ref h_sheets) (C := RX0) (T := TX0) (N := 18) hx hb hts in_X0 hown hK.1 hP 0 rfl rfl 17 (by decide) (hts _ q273) (fun _ h9 => h9) rfl dX0_item_11 ?_
    refine lv_iload_n hx hb dX0_item_14 rfl (lv_at hl 1 rfl) ?_
    obtain ⟨i_3, hw⟩ := hw
    refine z_aaldS hx hb hK.1 hP 1 7 rfl rfl i_3 dX0_item_15 hsh ?_
    refine lv_iload_n hx hb dX0_item_16 rfl (lv_at hl 2 rfl) ?_
    refine lv_iload_n hx hb dX0_item_17 rfl (lv_at hl 3 rfl) ?_
    refine lv_lload hx hb dX0_item_18 (lv_at hl 4 rfl) ?_
    have hPc := hP.sub (ws' := [oc h_sheets_x 8 [.ref h_sheets_x_r], ay G h_sheets_x_r rn rw]) [2, 3] rfl
    have hDc := hD.sub (ws' := [oc h_sheets_x 8 [.ref h_sheets_x_r], ay G h_sheets_x_r rn rw]) [2, 3] (by decide) rfl
    have hFc := va_free (wc := [oc h_sheets_x 8 [.ref h_sheets_x_r], ay G h_sheets_x_r rn rw]) hD hS hA [2, 3] rfl
    refine va_callEv (va_runVT (As := [.int p2, .int p3, .long p4]) (rest := []) ⟨hx, hb, hml, hown, hts⟩ (mt_X8_lay_B_x l G aS hfl h_sheets_x h_sheets_x_r H.size rn rw p2 p3 p4 _ _ hw) (cwV 3 hts (lw_V q686 q687 q688 q64 q689) rfl rfl rfl (by decide +kernel) ⟨Nat.le_of_ble_eq_true rfl, Nat.le_of_ble_eq_true rfl⟩) ⟨fun a U g mk q => by obtain ⟨q0, q1, qP, qK, qD, qS⟩ := q; exact ⟨q0, q1, qP, qK.call, qD, stS.moved (u := U) (U := U.calling g mk a) (Vm.Alike.refl U.vm) rfl qS⟩, va_recv hK.1 hP (ci := 8) (q0 := 2) rfl rfl, fun U hU hW => ⟨rfl, by rw [hU], by rw [hU]; exact hPc, hK.warm hW, hDc.weaken (fun _ _ _ _ => trivial), hX.at hS hU hW⟩⟩ rfl rfl hl.1 rfl (lv_room (Nat.le_of_ble_eq_true rfl)) dX0_item_20 ⟨Nat.le_of_ble_eq_true rfl, Nat.le_of_ble_eq_true rfl⟩) hS (fun q _ h => hFc q h) hFc (fun u_4 t H1 locs ht hvm hw hB hz1 hk1 hS => ?_) (fun k_6 x_5 t H1 locs ht hvm hw hxo hB hz1 hk1 hS => ?_)
    · obtain ⟨hP1, hD1⟩ := hB
      rw [ht] at hP1
      obtain ⟨hP, hD⟩ := va_join (wr := [oc h 0 [.ref h_kinds, .ref h_now, .ref h_fault, .ref h_tape, .int taped, .int reads, .ref h_got, .ref h_failing, .ref h_past, .int undoMany, .ref h_aside, .ref h_best, .ref h_tried, .ref h_kept, .ref h_keptPast, .int keptMany, .int isKept, .ref h_sheets], arf G h_sheets 7 4 shf]) (w1 := [oc h_sheets_x 8 [.ref h_sheets_x_r], ay G h_sheets_x_r rn u_4]) hP hD [2, 3] [0, 1] rfl rfl (by decide) (by decide) hk1 hFc hP1 hD1
      clear hPc hDc hFc hP1 hD1 hz1 hk1 hvm
      generalize H1 = H at hP hS ⊢
      have hP : va_P G.1 gCl [oc h 0 [.ref h_kinds, .ref h_now, .ref h_fault, .ref h_tape, .int taped, .int reads, .ref h_got, .ref h_failing, .ref h_past, .int undoMany, .ref h_aside, .ref h_best, .ref h_tried, .ref h_kept, .ref h_keptPast, .int keptMany, .int isKept, .ref h_sheets], arf G h_sheets 7 4 shf, oc h_sheets_x 8 [.ref h_sheets_x_r], ay G h_sheets_x_r rn u_4] H := hP
      have hD : va_D A [oc h 0 [.ref h_kinds, .ref h_now, .ref h_fault, .ref h_tape, .int taped, .int reads, .ref h_got, .ref h_failing, .ref h_past, .int undoMany, .ref h_aside, .ref h_best, .ref h_tried, .ref h_kept, .ref h_keptPast, .int keptMany, .int isKept, .ref h_sheets], arf G h_sheets 7 4 shf, oc h_sheets_x 8 [.ref h_sheets_x_r], ay G h_sheets_x_r rn u_4] := hD
      refine lv_goto (tgt := 41) hx hb dX0_item_23 (by decide) ?_
      refine lv_iconst (v := (1 : Int32)) hx hb dX0_item_41 (by decide) ?_
      have hP9 := hP
      have hD9 := hD
      exact w_widen (k := 3) (n := 1010) (by first | exact Nat.le_of_ble_eq_true rfl | omega) (by first | exact Nat.le_of_ble_eq_true rfl | omega) (W.iret (v := (1 : Int32)) hx hb hr (fun t ht hW => ⟨⟨(1 : Int32), u_4, rfl, hw, by rw [ht]; exact hP9, hD9⟩, hS.F ht⟩) hS.2.2 dX0_item_42)
    · obtain ⟨hP1, hD1⟩ := hB
      rw [ht] at hP1
      obtain ⟨hP, hD⟩ := va_join (wr := [oc h 0 [.ref h_kinds, .ref h_now, .ref h_fault, .ref h_tape, .int taped, .int reads, .ref h_got, .ref h_failing, .ref h_past, .int undoMany, .ref h_aside, .ref h_best, .ref h_tried, .ref h_kept, .ref h_keptPast, .int keptMany, .int isKept, .ref h_sheets], arf G h_sheets 7 4 shf]) (w1 := [oc h_sheets_x 8 [.ref h_sheets_x_r], ay G h_sheets_x_r rn rw]) hP hD [2, 3] [0, 1] rfl rfl (by decide) (by decide) hk1 hFc hP1 hD1
      clear hPc hDc hFc hP1 hD1 hz1 hk1 hvm
      generalize H1 = H at hP hS hxo ⊢
      have hP : va_P G.1 gCl [oc h 0 [.ref h_kinds, .ref h_now, .ref h_fault, .ref h_tape, .int taped, .int reads, .ref h_got, .ref h_failing, .ref h_past, .int undoMany, .ref h_aside, .ref h_best, .ref h_tried, .ref h_kept, .ref h_keptPast, .int keptMany, .int isKept, .ref h_sheets], arf G h_sheets 7 4 shf, oc h_sheets_x 8 [.ref h_sheets_x_r], ay G h_sheets_x_r rn rw] H := hP
      have hD : va_D A [oc h 0 [.ref h_kinds, .ref h_now, .ref h_fault, .ref h_tape, .int taped, .int reads, .ref h_got, .ref h_failing, .ref h_past, .int undoMany, .ref h_aside, .ref h_best, .ref h_tried, .ref h_kept, .ref h_keptPast, .int keptMany, .int isKept, .ref h_sheets], arf G h_sheets 7 4 shf, oc h_sheets_x 8 [.ref h_sheets_x_r], ay G h_sheets_x_r rn rw] := hD
      rcases hw.1 with ek | ek | ek
      · subst ek
        replace hw := hw.2.1 rfl
        obtain ⟨ce, hce, hcv, hcc⟩ := hxo
        refine wx_catch (cell := ce) hce (by rw [hcv]; rfl) [] ⟨10, 23, 26, 354⟩ [⟨10, 23, 31, 356⟩, ⟨10, 23, 36, 358⟩] hhd (fun _ _ z hz => by cases hz) (by decide) (by decide) hown (hts _ q734) (cT := ce.cls) hcc (vm_refl (args := #[]) (hK.n q756 rfl) hcc) ?_
        refine lv_astore (lv' := [(6, .ref x_5), (0, .ref h), (1, .int p1), (2, .int p2), (3, .int p3), (4, .long p4)]) hx hb dX0_item_26 hl (by decide) rfl (fun ls hl => ?_)
        refine lv_bipush (v := (-11 : Int32)) hx hb dX0_item_28 (by decide) ?_
        have hP9 := hP
        have hD9 := hD
        exact w_widen (k := 3) (n := 1010) (by first | exact Nat.le_of_ble_eq_true rfl | omega) (by first | exact Nat.le_of_ble_eq_true rfl | omega) (W.iret (v := (-11 : Int32)) hx hb hr (fun t ht hW => ⟨⟨(-11 : Int32), rw, rfl, hw, by rw [ht]; exact hP9, hD9⟩, hS.F ht⟩) hS.2.2 dX0_item_30)
      · subst ek
        replace hw := hw.2.2.1 rfl
        obtain ⟨ce, hce, hcv, hcc⟩ := hxo
        refine wx_catch (cell := ce) hce (by rw [hcv]; rfl) [⟨10, 23, 26, 354⟩] ⟨10, 23, 31, 356⟩ [⟨10, 23, 36, 358⟩] hhd (fun pl hpl z hz => (List.forall_mem_cons.mpr ⟨x_pass (z := ⟨10, 23, 26, 354⟩) (by decide) (by decide) hown (hts _ q734) (hK.2.2 ("java/lang/ClassCastException", "java/lang/NullPointerException") (by decide +kernel)) hcc pl hpl, fun _ h9 => absurd h9 List.not_mem_nil⟩) z hz) (by decide) (by decide) hown (hts _ q759) (cT := ce.cls) hcc (vm_refl (args := #[]) (hK.n q771 rfl) hcc) ?_
        refine lv_astore (lv' := [(6, .ref x_5), (0, .ref h), (1, .int p1), (2, .int p2), (3, .int p3), (4, .long p4)]) hx hb dX0_item_31 hl (by decide) rfl (fun ls hl => ?_)
        refine lv_bipush (v := (-12 : Int32)) hx hb dX0_item_33 (by decide) ?_
        have hP9 := hP
        have hD9 := hD
        exact w_widen (k := 3) (n := 1010) (by first | exact Nat.le_of_ble_eq_true rfl | omega) (by first | exact Nat.le_of_ble_eq_true rfl | omega) (W.iret (v := (-12 : Int32)) hx hb hr (fun t ht hW => ⟨⟨(-12 : Int32), rw, rfl, hw, by rw [ht]; exact hP9, hD9⟩, hS.F ht⟩) hS.2.2 dX0_item_35)
      · subst ek
        replace hw := hw.2.2.2 rfl
        obtain ⟨ce, hce, hcv, hcc⟩ := hxo
        refine wx_catch (cell := ce) hce (by rw [hcv]; rfl) [⟨10, 23, 26, 354⟩, ⟨10, 23, 31, 356⟩] ⟨10, 23, 36, 358⟩ [] hhd (fun pl hpl z hz => (List.forall_mem_cons.mpr ⟨x_pass (z := ⟨10, 23, 26, 354⟩) (by decide) (by decide) hown (hts _ q734) (hK.2.2 ("java/lang/ArrayIndexOutOfBoundsException", "java/lang/NullPointerException") (by decide +kernel)) hcc pl hpl, (List.forall_mem_cons.mpr ⟨x_pass (z := ⟨10, 23, 31, 356⟩) (by decide) (by decide) hown (hts _ q759) (hK.2.2 ("java/lang/ArrayIndexOutOfBoundsException", "java/lang/ClassCastException") (by decide +kernel)) hcc pl hpl, fun _ h9 => absurd h9 List.not_mem_nil⟩)⟩) z hz) (by decide) (by decide) hown (hts _ q773) (cT := ce.cls) hcc (vm_refl (args := #[]) (hK.n q788 rfl) hcc) ?_
        refine lv_astore (lv' := [(6, .ref x_5), (0, .ref h), (1, .int p1), (2, .int p2), (3, .int p3), (4, .long p4)]) hx hb dX0_item_36 hl (by decide) rfl (fun ls hl => ?_)
        refine lv_bipush (v := (-13 : Int32)) hx hb dX0_item_38 (by decide) ?_
        have hP9 := hP
        have hD9 := hD
        exact w_widen (k := 3) (n := 1010) (by first | exact Nat.le_of_ble_eq_true rfl | omega) (by first | exact Nat.le_of_ble_eq_true rfl | omega) (W.iret (v := (-13 : Int32)) hx hb hr (fun t ht hW => ⟨⟨(-13 : Int32), rw, rfl, hw, by rw [ht]; exact hP9, hD9⟩, hS.F ht⟩) hS.2.2 dX0_item_40)
  · replace hw := hw.2 c_2
    refine lv_iconst (v := (-1 : Int32)) hx hb dX0_item_8 (by decide) ?_
    have hP9 := hP
    have hD9 := hD
    exact w_widen (k := 3) (n := 1010) (by first | exact Nat.le_of_ble_eq_true rfl | omega) (by first | exact Nat.le_of_ble_eq_true rfl | omega) (W.iret (v := (-1 : Int32)) hx hb hr (fun t ht hW => ⟨⟨(-1 : Int32), rw, rfl, hw, by rw [ht]; exact hP9, hD9⟩, hS.F ht⟩) hS.2.2 dX0_item_9)
/-! BattleBench.item(IIIJ)I -/
def wp_X0_item_S (rn : Nat) (rw : Nat → Int32) (p1 : Int32) (p2 : Int32) (p3 : Int32) (p4 : Int64) (Q : Int32 → ((Nat → Int32)) → Prop) : Prop :=
  wp_X0_isSheet  p1 p2 (fun r_1 => ((¬ (r_1 = 0) → (vp_in p1 4 ∧ wp_X8_lay_S_x rn rw p2 p3 p4 (fun u_4 => Q (1 : Int32) u_4) (fun k_6 => (k_6 = 0 ∨ k_6 = 1 ∨ k_6 = 2) ∧ (k_6 = 0 → Q (-11 : Int32) rw) ∧ (k_6 = 1 → Q (-12 : Int32) rw) ∧ (k_6 = 2 → Q (-13 : Int32) rw)))) ∧ ((r_1 = 0) → Q (-1 : Int32) rw)))
set_option maxHeartbeats 4000000 in
theorem mt_X0_item_S (l : Launch) (G : GT) (aS : Nat) (hfl : l.flags = pinnedFlags ++ [noTraceFlag]) (h h_kinds h_now h_fault h_tape h_got h_failing h_past h_aside h_best h_tried h_kept h_keptPast h_sheets h_sheets_x h_sheets_x_r : Nat) (shf : Nat → Option Nat) (sz : Nat) (taped : Int32) (reads : Int32) (undoMany : Int32) (keptMany : Int32) (isKept : Int32) (rn : Nat) (rw : Nat → Int32) (p1 : Int32) (p2 : Int32) (p3 : Int32) (p4 : Int64)(hsh : shf p1.toNatClampNeg = some h_sheets_x) (Q : Int32 → ((Nat → Int32)) → Prop) (hw : wp_X0_item_S rn rw p1 p2 p3 p4 Q) : Met l yX0_item (wsW_ yX0_item cX0_item 7 (some .int) [(10, 23, 26, 354), (10, 23, 31, 356), (10, 23, 36, 358)]) ({ frames := 9, cells := 3, slots := 1010, locals := 10272 } : Room) (va_Pc [.ref h, .int p1, .int p2, .int p3, .long p4] (fun U => U.heap.size = sz ∧ va_P G.1 gCl [oc h 0 [.ref h_kinds, .ref h_now, .ref h_fault, .ref h_tape, .int taped, .int reads, .ref h_got, .ref h_failing, .ref h_past, .int undoMany, .ref h_aside, .ref h_best, .ref h_tried, .ref h_kept, .ref h_keptPast, .int keptMany, .int isKept, .ref h_sheets], arf G h_sheets 7 4 shf, oc h_sheets_x 8 [.ref h_sheets_x_r], ah G h_sheets_x_r rn rw] U.heap ∧ gK G U ∧ va_D (fun _ => True) [oc h 0 [.ref h_kinds, .ref h_now, .ref h_fault, .ref h_tape, .int taped, .int reads, .ref h_got, .ref h_failing, .ref h_past, .int undoMany, .ref h_aside, .ref h_best, .ref h_tried, .ref h_kept, .ref h_keptPast, .int keptMany, .int isKept, .ref h_sheets], arf G h_sheets 7 4 shf, oc h_sheets_x 8 [.ref h_sheets_x_r], ah G h_sheets_x_r rn rw] ∧ stS aS U)) ((fun A => (va_Qi (fun (r : Int32) (u : (Nat → Int32)) => Q r u) (fun u t => va_P G.1 gCl [oc h 0 [.ref h_kinds, .ref h_now, .ref h_fault, .ref h_tape, .int taped, .int reads, .ref h_got, .ref h_failing, .ref h_past, .int undoMany, .ref h_aside, .ref h_best, .ref h_tried, .ref h_kept, .ref h_keptPast, .int keptMany, .int isKept, .ref h_sheets], arf G h_sheets 7 4 shf, oc h_sheets_x 8 [.ref h_sheets_x_r], ah G h_sheets_x_r rn u] t.heap ∧ va_D A [oc h 0 [.ref h_kinds, .ref h_now, .ref h_fault, .ref h_tape, .int taped, .int reads, .ref h_got, .ref h_failing, .ref h_past, .int undoMany, .ref h_aside, .ref h_best, .ref h_tried, .ref h_kept, .ref h_keptPast, .int keptMany, .int isKept, .ref h_sheets], arf G h_sheets 7 4 shf, oc h_sheets_x 8 [.ref h_sheets_x_r], ah G h_sheets_x_r rn u]) A)) (va_A [oc h 0 [.ref h_kinds, .ref h_now, .ref h_fault, .ref h_tape, .int taped, .int reads, .ref h_got, .ref h_failing, .ref h_past, .int undoMany, .ref h_aside, .ref h_best, .ref h_tried, .ref h_kept, .ref h_keptPast, .int keptMany, .int isKept, .ref h_sheets], arf G h_sheets 7 4 shf, oc h_sheets_x 8 [.ref h_sheets_x_r], ah G h_sheets_x_r rn rw] sz)) 3 1010 (va_A [oc h 0 [.ref h_kinds, .ref h_now, .ref h_fault, .ref h_tape, .int taped, .int reads, .ref h_got, .ref h_failing, .ref h_past, .int undoMany, .ref h_aside, .ref h_best, .ref h_tried, .ref h_kept, .ref h_keptPast, .int keptMany, .int isKept, .ref h_sheets], arf G h_sheets 7 4 shf, oc h_sheets_x 8 [.ref h_sheets_x_r], ah G h_sheets_x_r rn rw] sz) := by
  refine va_MetW (hh := [(10, 23, 26, 354), (10, 23, 31, 356), (10, 23, 36, 358)]) (cc := cX0_item) (maxL := 7) (ret := (some .int)) (by decide) rfl ?_
  intro p e s m args below meth c s₁ B hml hv
  obtain ⟨rfl, hsz, hP, hK, hD0, hst⟩ := hv
  have hx := B.exec
  have hb := B.bytes
  have hr := B.returns
  have hts := atoms_spec (ws := (wsW_ yX0_item cX0_item 7 (some .int) [(10, 23, 26, 354), (10, 23, 31, 356), (10, 23, 36, 358)])) B.pre
  have hts : ∀ w ∈ lw_all, w.before _ s = true := fun w h => hts w (List.mem_cons_of_mem _ h)
  have hown : s.vm.findClass RX0 = some m.cls := findClass_of_methodNamed B.named
  have hlocks := B.notSynchronized
  have hhd : c.exceptionTable.toList = [⟨10, 23, 26, 354⟩, ⟨10, 23, 31, 356⟩, ⟨10, 23, 36, 358⟩] := x_hand B (atoms_spec (ws := (wsW_ yX0_item cX0_item 7 (some .int) [(10, 23, 26, 354), (10, 23, 31, 356), (10, 23, 36, 358)])) B.pre _ List.mem_cons_self)
  subst hsz
  have hD := hD0.self (sz := s.heap.size)
  generalize hAe : va_A [oc h 0 [.ref h_kinds, .ref h_now, .ref h_fault, .ref h_tape, .int taped, .int reads, .ref h_got, .ref h_failing, .ref h_past, .int undoMany, .ref h_aside, .ref h_best, .ref h_tried, .ref h_kept, .ref h_keptPast, .int keptMany, .int isKept, .ref h_sheets], arf G h_sheets 7 4 shf, oc h_sheets_x 8 [.ref h_sheets_x_r], ah G h_sheets_x_r rn rw] s.heap.size = A at hD ⊢
  have hA : ∀ q : Nat, s.heap.size ≤ q → A q := fun q h => by rw [← hAe]; exact Or.inr h
  have hS : va_S A s.heap s.heap [] := va_S.rf
  have hX : XCx l aS s A := ⟨hfl, hst, fun q cell hq hc => va_A.ns hP (by rw [hAe]; exact hq) hc⟩
  have C : Cx p s m meth c cX0_item 7 (some .int) RX0 ([.ref h, .int p1, .int p2, .int p3, .long p4] : List Value).toArray G A := ⟨hx, hb, hr, hlocks, hml, hown, hts, hK, hA⟩
  have hl := lv_entry ([.ref h, .int p1, .int p2, .int p3, .long p4]) (n := 7) (Nat.le_of_ble_eq_true rfl)
  rw [lg_entry_eq]
  generalize (lg_sl ([.ref h, .int p1, .int p2, .int p3, .long p4]) ++ List.replicate (7 - (lg_sl ([.ref h, .int p1, .int p2, .int p3, .long p4])).length) Slot.unset).toArray = ls at hl ⊢
  have hl : lv_has ls 7 [(0, .ref h), (1, .int p1), (2, .int p2), (3, .int p3), (4, .long p4)] := hl
  unfold wp_X0_item_S at hw
  refine lv_iload_n hx hb dX0_item_0 rfl (lv_at hl 1 rfl) ?_
  refine lv_iload_n hx hb dX0_item_1 rfl (lv_at hl 2 rfl) ?_
  have hPc := hP.sub (ws' := []) [] rfl
  have hDc := hD.sub (ws' := []) [] (by decide) rfl
  have hFc := va_free (wc := []) hD hS hA [] rfl
  refine va_calli (va_runS (As := [.int p1, .int p2]) (rest := []) ⟨hx, hb, hml, hown, hts⟩ (mt_X0_isSheet l G  s.heap.size  p1 p2 _ hw) (va_cwS 2 hts (lw_S q648 q649 q54 q650) rfl rfl rfl (by decide +kernel) ⟨Nat.le_of_ble_eq_true rfl, Nat.le_of_ble_eq_true rfl⟩) ⟨fun a U g mk q => by obtain ⟨q0, q1, qP, qK, qD⟩ := q; exact ⟨q0, q1, qP, qK.call, qD⟩, fun U hU hW => ⟨rfl, by rw [hU], by rw [hU]; exact hPc, hK.warm hW, hDc.weaken (fun _ _ _ _ => trivial)⟩⟩ rfl rfl hl.1 rfl (lv_room (Nat.le_of_ble_eq_true rfl)) dX0_item_2 ⟨Nat.le_of_ble_eq_true rfl, Nat.le_of_ble_eq_true rfl⟩) hS (fun q _ h => hFc q h) hFc (fun r_1 _ t H1 locs ht hvm hw hB hz1 hk1 hS => ?_)
  obtain ⟨hP1, hD1⟩ := hB
  rw [ht] at hP1
  obtain ⟨hP, hD⟩ := va_join (wr := [oc h 0 [.ref h_kinds, .ref h_now, .ref h_fault, .ref h_tape, .int taped, .int reads, .ref h_got, .ref h_failing, .ref h_past, .int undoMany, .ref h_aside, .ref h_best, .ref h_tried, .ref h_kept, .ref h_keptPast, .int keptMany, .int isKept, .ref h_sheets], arf G h_sheets 7 4 shf, oc h_sheets_x 8 [.ref h_sheets_x_r], ah G h_sheets_x_r rn rw]) (w1 := []) hP hD [] [0, 1, 2, 3] rfl rfl (by decide) (by decide) hk1 hFc hP1 hD1
  clear hPc hDc hFc hP1 hD1 hz1 hk1 hvm
  generalize H1 = H at hP hS ⊢
  have hP : va_P G.1 gCl [oc h 0 [.ref h_kinds, .ref h_now, .ref h_fault, .ref h_tape, .int taped, .int reads, .ref h_got, .ref h_failing, .ref h_past, .int undoMany, .ref h_aside, .ref h_best, .ref h_tried, .ref h_kept, .ref h_keptPast, .int keptMany, .int isKept, .ref h_sheets], arf G h_sheets 7 4 shf, oc h_sheets_x 8 [.ref h_sheets_x_r], ah G h_sheets_x_r rn rw] H := hP
  have hD : va_D A [oc h 0 [.ref h_kinds, .ref h_now, .ref h_fault, .ref h_tape, .int taped, .int reads, .ref h_got, .ref h_failing, .ref h_past, .int undoMany, .ref h_aside, .ref h_best, .ref h_tried, .ref h_kept, .ref h_keptPast, .int keptMany, .int isKept, .ref h_sheets], arf G h_sheets 7 4 shf, oc h_sheets_x 8 [.ref h_sheets_x_r], ah G h_sheets_x_r rn rw] := hD
  refine lv_if_ne (tgt := 10) hx hb dX0_item_5 (by decide) (fun c_2 => ?_) (fun c_2 => ?_)
  · replace hw := hw.1 c_2
    refine lv_aload_n hx hb dX0_item_10 rfl (lv_at hl 0 rfl) ?_
    refine va_get (D := G.1) (ci := 0) (v := .ref h_sheets) (C := RX0) (T := TX0) (N := 18) hx hb hts in_X0 hown hK.1 hP 0 rfl rfl 17 (by decide) (hts _ q273) (fun _ h9 => h9) rfl dX0_item_11 ?_
    refine lv_iload_n hx hb dX0_item_14 rfl (lv_at hl 1 rfl) ?_
    obtain ⟨i_3, hw⟩ := hw
    refine z_aaldS hx hb hK.1 hP 1 7 rfl rfl i_3 dX0_item_15 hsh ?_
    refine lv_iload_n hx hb dX0_item_16 rfl (lv_at hl 2 rfl) ?_
    refine lv_iload_n hx hb dX0_item_17 rfl (lv_at hl 3 rfl) ?_
    refine lv_lload hx hb dX0_item_18 (lv_at hl 4 rfl) ?_
    have hPc := hP.sub (ws' := [oc h_sheets_x 8 [.ref h_sheets_x_r], ah G h_sheets_x_r rn rw]) [2, 3] rfl
    have hDc := hD.sub (ws' := [oc h_sheets_x 8 [.ref h_sheets_x_r], ah G h_sheets_x_r rn rw]) [2, 3] (by decide) rfl
    have hFc := va_free (wc := [oc h_sheets_x 8 [.ref h_sheets_x_r], ah G h_sheets_x_r rn rw]) hD hS hA [2, 3] rfl
    refine va_callEv (va_runVT (As := [.int p2, .int p3, .long p4]) (rest := []) ⟨hx, hb, hml, hown, hts⟩ (mt_X8_lay_S_x l G aS hfl h_sheets_x h_sheets_x_r H.size rn rw p2 p3 p4 _ _ hw) (cwV 3 hts (lw_V q686 q687 q688 q64 q689) rfl rfl rfl (by decide +kernel) ⟨Nat.le_of_ble_eq_true rfl, Nat.le_of_ble_eq_true rfl⟩) ⟨fun a U g mk q => by obtain ⟨q0, q1, qP, qK, qD, qS⟩ := q; exact ⟨q0, q1, qP, qK.call, qD, stS.moved (u := U) (U := U.calling g mk a) (Vm.Alike.refl U.vm) rfl qS⟩, va_recv hK.1 hP (ci := 8) (q0 := 2) rfl rfl, fun U hU hW => ⟨rfl, by rw [hU], by rw [hU]; exact hPc, hK.warm hW, hDc.weaken (fun _ _ _ _ => trivial), hX.at hS hU hW⟩⟩ rfl rfl hl.1 rfl (lv_room (Nat.le_of_ble_eq_true rfl)) dX0_item_20 ⟨Nat.le_of_ble_eq_true rfl, Nat.le_of_ble_eq_true rfl⟩) hS (fun q _ h => hFc q h) hFc (fun u_4 t H1 locs ht hvm hw hB hz1 hk1 hS => ?_) (fun k_6 x_5 t H1 locs ht hvm hw hxo hB hz1 hk1 hS => ?_)
    · obtain ⟨hP1, hD1⟩ := hB
      rw [ht] at hP1
      obtain ⟨hP, hD⟩ := va_join (wr := [oc h 0 [.ref h_kinds, .ref h_now, .ref h_fault, .ref h_tape, .int taped, .int reads, .ref h_got, .ref h_failing, .ref h_past, .int undoMany, .ref h_aside, .ref h_best, .ref h_tried, .ref h_kept, .ref h_keptPast, .int keptMany, .int isKept, .ref h_sheets], arf G h_sheets 7 4 shf]) (w1 := [oc h_sheets_x 8 [.ref h_sheets_x_r], ah G h_sheets_x_r rn u_4]) hP hD [2, 3] [0, 1] rfl rfl (by decide) (by decide) hk1 hFc hP1 hD1
      clear hPc hDc hFc hP1 hD1 hz1 hk1 hvm
      generalize H1 = H at hP hS ⊢
      have hP : va_P G.1 gCl [oc h 0 [.ref h_kinds, .ref h_now, .ref h_fault, .ref h_tape, .int taped, .int reads, .ref h_got, .ref h_failing, .ref h_past, .int undoMany, .ref h_aside, .ref h_best, .ref h_tried, .ref h_kept, .ref h_keptPast, .int keptMany, .int isKept, .ref h_sheets], arf G h_sheets 7 4 shf, oc h_sheets_x 8 [.ref h_sheets_x_r], ah G h_sheets_x_r rn u_4] H := hP
      have hD : va_D A [oc h 0 [.ref h_kinds, .ref h_now, .ref h_fault, .ref h_tape, .int taped, .int reads, .ref h_got, .ref h_failing, .ref h_past, .int undoMany, .ref h_aside, .ref h_best, .ref h_tried, .ref h_kept, .ref h_keptPast, .int keptMany, .int isKept, .ref h_sheets], arf G h_sheets 7 4 shf, oc h_sheets_x 8 [.ref h_sheets_x_r], ah G h_sheets_x_r rn u_4] := hD
      refine lv_goto (tgt := 41) hx hb dX0_item_23 (by decide) ?_
      refine lv_iconst (v := (1 : Int32)) hx hb dX0_item_41 (by decide) ?_
      have hP9 := hP
      have hD9 := hD
      exact w_widen (k := 3) (n := 1010) (by first | exact Nat.le_of_ble_eq_true rfl | omega) (by first | exact Nat.le_of_ble_eq_true rfl | omega) (W.iret (v := (1 : Int32)) hx hb hr (fun t ht hW => ⟨⟨(1 : Int32), u_4, rfl, hw, by rw [ht]; exact hP9, hD9⟩, hS.F ht⟩) hS.2.2 dX0_item_42)
    · obtain ⟨hP1, hD1⟩ := hB
      rw [ht] at hP1
      obtain ⟨hP, hD⟩ := va_join (wr := [oc h 0 [.ref h_kinds, .ref h_now, .ref h_fault, .ref h_tape, .int taped, .int reads, .ref h_got, .ref h_failing, .ref h_past, .int undoMany, .ref h_aside, .ref h_best, .ref h_tried, .ref h_kept, .ref h_keptPast, .int keptMany, .int isKept, .ref h_sheets], arf G h_sheets 7 4 shf]) (w1 := [oc h_sheets_x 8 [.ref h_sheets_x_r], ah G h_sheets_x_r rn rw]) hP hD [2, 3] [0, 1] rfl rfl (by decide) (by decide) hk1 hFc hP1 hD1
      clear hPc hDc hFc hP1 hD1 hz1 hk1 hvm
      generalize H1 = H at hP hS hxo ⊢
      have hP : va_P G.1 gCl [oc h 0 [.ref h_kinds, .ref h_now, .ref h_fault, .ref h_tape, .int taped, .int reads, .ref h_got, .ref h_failing, .ref h_past, .int undoMany, .ref h_aside, .ref h_best, .ref h_tried, .ref h_kept, .ref h_keptPast, .int keptMany, .int isKept, .ref h_sheets], arf G h_sheets 7 4 shf, oc h_sheets_x 8 [.ref h_sheets_x_r], ah G h_sheets_x_r rn rw] H := hP
      have hD : va_D A [oc h 0 [.ref h_kinds, .ref h_now, .ref h_fault, .ref h_tape, .int taped, .int reads, .ref h_got, .ref h_failing, .ref h_past, .int undoMany, .ref h_aside, .ref h_best, .ref h_tried, .ref h_kept, .ref h_keptPast, .int keptMany, .int isKept, .ref h_sheets], arf G h_sheets 7 4 shf, oc h_sheets_x 8 [.ref h_sheets_x_r], ah G h_sheets_x_r rn rw] := hD
      rcases hw.1 with ek | ek | ek
      · subst ek
        replace hw := hw.2.1 rfl
        obtain ⟨ce, hce, hcv, hcc⟩ := hxo
        refine wx_catch (cell := ce) hce (by rw [hcv]; rfl) [] ⟨10, 23, 26, 354⟩ [⟨10, 23, 31, 356⟩, ⟨10, 23, 36, 358⟩] hhd (fun _ _ z hz => by cases hz) (by decide) (by decide) hown (hts _ q734) (cT := ce.cls) hcc (vm_refl (args := #[]) (hK.n q756 rfl) hcc) ?_
        refine lv_astore (lv' := [(6, .ref x_5), (0, .ref h), (1, .int p1), (2, .int p2), (3, .int p3), (4, .long p4)]) hx hb dX0_item_26 hl (by decide) rfl (fun ls hl => ?_)
        refine lv_bipush (v := (-11 : Int32)) hx hb dX0_item_28 (by decide) ?_
        have hP9 := hP
        have hD9 := hD
        exact w_widen (k := 3) (n := 1010) (by first | exact Nat.le_of_ble_eq_true rfl | omega) (by first | exact Nat.le_of_ble_eq_true rfl | omega) (W.iret (v := (-11 : Int32)) hx hb hr (fun t ht hW => ⟨⟨(-11 : Int32), rw, rfl, hw, by rw [ht]; exact hP9, hD9⟩, hS.F ht⟩) hS.2.2 dX0_item_30)
      · subst ek
        replace hw := hw.2.2.1 rfl
        obtain ⟨ce, hce, hcv, hcc⟩ := hxo
        refine wx_catch (cell := ce) hce (by rw [hcv]; rfl) [⟨10, 23, 26, 354⟩] ⟨10, 23, 31, 356⟩ [⟨10, 23, 36, 358⟩] hhd (fun pl hpl z hz => (List.forall_mem_cons.mpr ⟨x_pass (z := ⟨10, 23, 26, 354⟩) (by decide) (by decide) hown (hts _ q734) (hK.2.2 ("java/lang/ClassCastException", "java/lang/NullPointerException") (by decide +kernel)) hcc pl hpl, fun _ h9 => absurd h9 List.not_mem_nil⟩) z hz) (by decide) (by decide) hown (hts _ q759) (cT := ce.cls) hcc (vm_refl (args := #[]) (hK.n q771 rfl) hcc) ?_
        refine lv_astore (lv' := [(6, .ref x_5), (0, .ref h), (1, .int p1), (2, .int p2), (3, .int p3), (4, .long p4)]) hx hb dX0_item_31 hl (by decide) rfl (fun ls hl => ?_)
        refine lv_bipush (v := (-12 : Int32)) hx hb dX0_item_33 (by decide) ?_
        have hP9 := hP
        have hD9 := hD
        exact w_widen (k := 3) (n := 1010) (by first | exact Nat.le_of_ble_eq_true rfl | omega) (by first | exact Nat.le_of_ble_eq_true rfl | omega) (W.iret (v := (-12 : Int32)) hx hb hr (fun t ht hW => ⟨⟨(-12 : Int32), rw, rfl, hw, by rw [ht]; exact hP9, hD9⟩, hS.F ht⟩) hS.2.2 dX0_item_35)
      · subst ek
        replace hw := hw.2.2.2 rfl
        obtain ⟨ce, hce, hcv, hcc⟩ := hxo
        refine wx_catch (cell := ce) hce (by rw [hcv]; rfl) [⟨10, 23, 26, 354⟩, ⟨10, 23, 31, 356⟩] ⟨10, 23, 36, 358⟩ [] hhd (fun pl hpl z hz => (List.forall_mem_cons.mpr ⟨x_pass (z := ⟨10, 23, 26, 354⟩) (by decide) (by decide) hown (hts _ q734) (hK.2.2 ("java/lang/ArrayIndexOutOfBoundsException", "java/lang/NullPointerException") (by decide +kernel)) hcc pl hpl, (List.forall_mem_cons.mpr ⟨x_pass (z := ⟨10, 23, 31, 356⟩) (by decide) (by decide) hown (hts _ q759) (hK.2.2 ("java/lang/ArrayIndexOutOfBoundsException", "java/lang/ClassCastException") (by decide +kernel)) hcc pl hpl, fun _ h9 => absurd h9 List.not_mem_nil⟩)⟩) z hz) (by decide) (by decide) hown (hts _ q773) (cT := ce.cls) hcc (vm_refl (args := #[]) (hK.n q788 rfl) hcc) ?_
        refine lv_astore (lv' := [(6, .ref x_5), (0, .ref h), (1, .int p1), (2, .int p2), (3, .int p3), (4, .long p4)]) hx hb dX0_item_36 hl (by decide) rfl (fun ls hl => ?_)
        refine lv_bipush (v := (-13 : Int32)) hx hb dX0_item_38 (by decide) ?_
        have hP9 := hP
        have hD9 := hD
        exact w_widen (k := 3) (n := 1010) (by first | exact Nat.le_of_ble_eq_true rfl | omega) (by first | exact Nat.le_of_ble_eq_true rfl | omega) (W.iret (v := (-13 : Int32)) hx hb hr (fun t ht hW => ⟨⟨(-13 : Int32), rw, rfl, hw, by rw [ht]; exact hP9, hD9⟩, hS.F ht⟩) hS.2.2 dX0_item_40)
  · replace hw := hw.2 c_2
    refine lv_iconst (v := (-1 : Int32)) hx hb dX0_item_8 (by decide) ?_
    have hP9 := hP
    have hD9 := hD
    exact w_widen (k := 3) (n := 1010) (by first | exact Nat.le_of_ble_eq_true rfl | omega) (by first | exact Nat.le_of_ble_eq_true rfl | omega) (W.iret (v := (-1 : Int32)) hx hb hr (fun t ht hW => ⟨⟨(-1 : Int32), rw, rfl, hw, by rw [ht]; exact hP9, hD9⟩, hS.F ht⟩) hS.2.2 dX0_item_9)
/-! BattleBench.item(IIIJ)I -/
def wp_X0_item_I (rn : Nat) (rw : Nat → Int32) (p1 : Int32) (p2 : Int32) (p3 : Int32) (p4 : Int64) (Q : Int32 → ((Nat → Int32)) → Prop) : Prop :=
  wp_X0_isSheet  p1 p2 (fun r_1 => ((¬ (r_1 = 0) → (vp_in p1 4 ∧ wp_X8_lay_I_x rn rw p2 p3 p4 (fun u_4 => Q (1 : Int32) u_4) (fun k_6 => (k_6 = 0 ∨ k_6 = 1 ∨ k_6 = 2) ∧ (k_6 = 0 → Q (-11 : Int32) rw) ∧ (k_6 = 1 → Q (-12 : Int32) rw) ∧ (k_6 = 2 → Q (-13 : Int32) rw)))) ∧ ((r_1 = 0) → Q (-1 : Int32) rw)))
set_option maxHeartbeats 4000000 in
theorem mt_X0_item_I (l : Launch) (G : GT) (aS : Nat) (hfl : l.flags = pinnedFlags ++ [noTraceFlag]) (h h_kinds h_now h_fault h_tape h_got h_failing h_past h_aside h_best h_tried h_kept h_keptPast h_sheets h_sheets_x h_sheets_x_r : Nat) (shf : Nat → Option Nat) (sz : Nat) (taped : Int32) (reads : Int32) (undoMany : Int32) (keptMany : Int32) (isKept : Int32) (rn : Nat) (rw : Nat → Int32) (p1 : Int32) (p2 : Int32) (p3 : Int32) (p4 : Int64)(hsh : shf p1.toNatClampNeg = some h_sheets_x) (Q : Int32 → ((Nat → Int32)) → Prop) (hw : wp_X0_item_I rn rw p1 p2 p3 p4 Q) : Met l yX0_item (wsW_ yX0_item cX0_item 7 (some .int) [(10, 23, 26, 354), (10, 23, 31, 356), (10, 23, 36, 358)]) ({ frames := 9, cells := 3, slots := 1010, locals := 10272 } : Room) (va_Pc [.ref h, .int p1, .int p2, .int p3, .long p4] (fun U => U.heap.size = sz ∧ va_P G.1 gCl [oc h 0 [.ref h_kinds, .ref h_now, .ref h_fault, .ref h_tape, .int taped, .int reads, .ref h_got, .ref h_failing, .ref h_past, .int undoMany, .ref h_aside, .ref h_best, .ref h_tried, .ref h_kept, .ref h_keptPast, .int keptMany, .int isKept, .ref h_sheets], arf G h_sheets 7 4 shf, oc h_sheets_x 8 [.ref h_sheets_x_r], ai G h_sheets_x_r rn rw] U.heap ∧ gK G U ∧ va_D (fun _ => True) [oc h 0 [.ref h_kinds, .ref h_now, .ref h_fault, .ref h_tape, .int taped, .int reads, .ref h_got, .ref h_failing, .ref h_past, .int undoMany, .ref h_aside, .ref h_best, .ref h_tried, .ref h_kept, .ref h_keptPast, .int keptMany, .int isKept, .ref h_sheets], arf G h_sheets 7 4 shf, oc h_sheets_x 8 [.ref h_sheets_x_r], ai G h_sheets_x_r rn rw] ∧ stS aS U)) ((fun A => (va_Qi (fun (r : Int32) (u : (Nat → Int32)) => Q r u) (fun u t => va_P G.1 gCl [oc h 0 [.ref h_kinds, .ref h_now, .ref h_fault, .ref h_tape, .int taped, .int reads, .ref h_got, .ref h_failing, .ref h_past, .int undoMany, .ref h_aside, .ref h_best, .ref h_tried, .ref h_kept, .ref h_keptPast, .int keptMany, .int isKept, .ref h_sheets], arf G h_sheets 7 4 shf, oc h_sheets_x 8 [.ref h_sheets_x_r], ai G h_sheets_x_r rn u] t.heap ∧ va_D A [oc h 0 [.ref h_kinds, .ref h_now, .ref h_fault, .ref h_tape, .int taped, .int reads, .ref h_got, .ref h_failing, .ref h_past, .int undoMany, .ref h_aside, .ref h_best, .ref h_tried, .ref h_kept, .ref h_keptPast, .int keptMany, .int isKept, .ref h_sheets], arf G h_sheets 7 4 shf, oc h_sheets_x 8 [.ref h_sheets_x_r], ai G h_sheets_x_r rn u]) A)) (va_A [oc h 0 [.ref h_kinds, .ref h_now, .ref h_fault, .ref h_tape, .int taped, .int reads, .ref h_got, .ref h_failing, .ref h_past, .int undoMany, .ref h_aside, .ref h_best, .ref h_tried, .ref h_kept, .ref h_keptPast, .int keptMany, .int isKept, .ref h_sheets], arf G h_sheets 7 4 shf, oc h_sheets_x 8 [.ref h_sheets_x_r], ai G h_sheets_x_r rn rw] sz)) 3 1010 (va_A [oc h 0 [.ref h_kinds, .ref h_now, .ref h_fault, .ref h_tape, .int taped, .int reads, .ref h_got, .ref h_failing, .ref h_past, .int undoMany, .ref h_aside, .ref h_best, .ref h_tried, .ref h_kept, .ref h_keptPast, .int keptMany, .int isKept, .ref h_sheets], arf G h_sheets 7 4 shf, oc h_sheets_x 8 [.ref h_sheets_x_r], ai G h_sheets_x_r rn rw] sz) := by
  refine va_MetW (hh := [(10, 23, 26, 354), (10, 23, 31, 356), (10, 23, 36, 358)]) (cc := cX0_item) (maxL := 7) (ret := (some .int)) (by decide) rfl ?_
  intro p e s m args below meth c s₁ B hml hv
  obtain ⟨rfl, hsz, hP, hK, hD0, hst⟩ := hv
  have hx := B.exec
  have hb := B.bytes
  have hr := B.returns
  have hts := atoms_spec (ws := (wsW_ yX0_item cX0_item 7 (some .int) [(10, 23, 26, 354), (10, 23, 31, 356), (10, 23, 36, 358)])) B.pre
  have hts : ∀ w ∈ lw_all, w.before _ s = true := fun w h => hts w (List.mem_cons_of_mem _ h)
  have hown : s.vm.findClass RX0 = some m.cls := findClass_of_methodNamed B.named
  have hlocks := B.notSynchronized
  have hhd : c.exceptionTable.toList = [⟨10, 23, 26, 354⟩, ⟨10, 23, 31, 356⟩, ⟨10, 23, 36, 358⟩] := x_hand B (atoms_spec (ws := (wsW_ yX0_item cX0_item 7 (some .int) [(10, 23, 26, 354), (10, 23, 31, 356), (10, 23, 36, 358)])) B.pre _ List.mem_cons_self)
  subst hsz
  have hD := hD0.self (sz := s.heap.size)
  generalize hAe : va_A [oc h 0 [.ref h_kinds, .ref h_now, .ref h_fault, .ref h_tape, .int taped, .int reads, .ref h_got, .ref h_failing, .ref h_past, .int undoMany, .ref h_aside, .ref h_best, .ref h_tried, .ref h_kept, .ref h_keptPast, .int keptMany, .int isKept, .ref h_sheets], arf G h_sheets 7 4 shf, oc h_sheets_x 8 [.ref h_sheets_x_r], ai G h_sheets_x_r rn rw] s.heap.size = A at hD ⊢
  have hA : ∀ q : Nat, s.heap.size ≤ q → A q := fun q h => by rw [← hAe]; exact Or.inr h
  have hS : va_S A s.heap s.heap [] := va_S.rf
  have hX : XCx l aS s A := ⟨hfl, hst, fun q cell hq hc => va_A.ns hP (by rw [hAe]; exact hq) hc⟩
  have C : Cx p s m meth c cX0_item 7 (some .int) RX0 ([.ref h, .int p1, .int p2, .int p3, .long p4] : List Value).toArray G A := ⟨hx, hb, hr, hlocks, hml, hown, hts, hK, hA⟩
  have hl := lv_entry ([.ref h, .int p1, .int p2, .int p3, .long p4]) (n := 7) (Nat.le_of_ble_eq_true rfl)
  rw [lg_entry_eq]
  generalize (lg_sl ([.ref h, .int p1, .int p2, .int p3, .long p4]) ++ List.replicate (7 - (lg_sl ([.ref h, .int p1, .int p2, .int p3, .long p4])).length) Slot.unset).toArray = ls at hl ⊢
  have hl : lv_has ls 7 [(0, .ref h), (1, .int p1), (2, .int p2), (3, .int p3), (4, .long p4)] := hl
  unfold wp_X0_item_I at hw
  refine lv_iload_n hx hb dX0_item_0 rfl (lv_at hl 1 rfl) ?_
  refine lv_iload_n hx hb dX0_item_1 rfl (lv_at hl 2 rfl) ?_
  have hPc := hP.sub (ws' := []) [] rfl
  have hDc := hD.sub (ws' := []) [] (by decide) rfl
  have hFc := va_free (wc := []) hD hS hA [] rfl
  refine va_calli (va_runS (As := [.int p1, .int p2]) (rest := []) ⟨hx, hb, hml, hown, hts⟩ (mt_X0_isSheet l G  s.heap.size  p1 p2 _ hw) (va_cwS 2 hts (lw_S q648 q649 q54 q650) rfl rfl rfl (by decide +kernel) ⟨Nat.le_of_ble_eq_true rfl, Nat.le_of_ble_eq_true rfl⟩) ⟨fun a U g mk q => by obtain ⟨q0, q1, qP, qK, qD⟩ := q; exact ⟨q0, q1, qP, qK.call, qD⟩, fun U hU hW => ⟨rfl, by rw [hU], by rw [hU]; exact hPc, hK.warm hW, hDc.weaken (fun _ _ _ _ => trivial)⟩⟩ rfl rfl hl.1 rfl (lv_room (Nat.le_of_ble_eq_true rfl)) dX0_item_2 ⟨Nat.le_of_ble_eq_true rfl, Nat.le_of_ble_eq_true rfl⟩) hS (fun q _ h => hFc q h) hFc (fun r_1 _ t H1 locs ht hvm hw hB hz1 hk1 hS => ?_)
  obtain ⟨hP1, hD1⟩ := hB
  rw [ht] at hP1
  obtain ⟨hP, hD⟩ := va_join (wr := [oc h 0 [.ref h_kinds, .ref h_now, .ref h_fault, .ref h_tape, .int taped, .int reads, .ref h_got, .ref h_failing, .ref h_past, .int undoMany, .ref h_aside, .ref h_best, .ref h_tried, .ref h_kept, .ref h_keptPast, .int keptMany, .int isKept, .ref h_sheets], arf G h_sheets 7 4 shf, oc h_sheets_x 8 [.ref h_sheets_x_r], ai G h_sheets_x_r rn rw]) (w1 := []) hP hD [] [0, 1, 2, 3] rfl rfl (by decide) (by decide) hk1 hFc hP1 hD1
  clear hPc hDc hFc hP1 hD1 hz1 hk1 hvm
  generalize H1 = H at hP hS ⊢
  have hP : va_P G.1 gCl [oc h 0 [.ref h_kinds, .ref h_now, .ref h_fault, .ref h_tape, .int taped, .int reads, .ref h_got, .ref h_failing, .ref h_past, .int undoMany, .ref h_aside, .ref h_best, .ref h_tried, .ref h_kept, .ref h_keptPast, .int keptMany, .int isKept, .ref h_sheets], arf G h_sheets 7 4 shf, oc h_sheets_x 8 [.ref h_sheets_x_r], ai G h_sheets_x_r rn rw] H := hP
  have hD : va_D A [oc h 0 [.ref h_kinds, .ref h_now, .ref h_fault, .ref h_tape, .int taped, .int reads, .ref h_got, .ref h_failing, .ref h_past, .int undoMany, .ref h_aside, .ref h_best, .ref h_tried, .ref h_kept, .ref h_keptPast, .int keptMany, .int isKept, .ref h_sheets], arf G h_sheets 7 4 shf, oc h_sheets_x 8 [.ref h_sheets_x_r], ai G h_sheets_x_r rn rw] := hD
  refine lv_if_ne (tgt := 10) hx hb dX0_item_5 (by decide) (fun c_2 => ?_) (fun c_2 => ?_)
  · replace hw := hw.1 c_2
    refine lv_aload_n hx hb dX0_item_10 rfl (lv_at hl 0 rfl) ?_
    refine va_get (D := G.1) (ci := 0) (v := .ref h_sheets) (C := RX0) (T := TX0) (N := 18) hx hb hts in_X0 hown hK.1 hP 0 rfl rfl 17 (by decide) (hts _ q273) (fun _ h9 => h9) rfl dX0_item_11 ?_
    refine lv_iload_n hx hb dX0_item_14 rfl (lv_at hl 1 rfl) ?_
    obtain ⟨i_3, hw⟩ := hw
    refine z_aaldS hx hb hK.1 hP 1 7 rfl rfl i_3 dX0_item_15 hsh ?_
    refine lv_iload_n hx hb dX0_item_16 rfl (lv_at hl 2 rfl) ?_
    refine lv_iload_n hx hb dX0_item_17 rfl (lv_at hl 3 rfl) ?_
    refine lv_lload hx hb dX0_item_18 (lv_at hl 4 rfl) ?_
    have hPc := hP.sub (ws' := [oc h_sheets_x 8 [.ref h_sheets_x_r], ai G h_sheets_x_r rn rw]) [2, 3] rfl
    have hDc := hD.sub (ws' := [oc h_sheets_x 8 [.ref h_sheets_x_r], ai G h_sheets_x_r rn rw]) [2, 3] (by decide) rfl
    have hFc := va_free (wc := [oc h_sheets_x 8 [.ref h_sheets_x_r], ai G h_sheets_x_r rn rw]) hD hS hA [2, 3] rfl
    refine va_callEv (va_runVT (As := [.int p2, .int p3, .long p4]) (rest := []) ⟨hx, hb, hml, hown, hts⟩ (mt_X8_lay_I_x l G aS hfl h_sheets_x h_sheets_x_r H.size rn rw p2 p3 p4 _ _ hw) (cwV 3 hts (lw_V q686 q687 q688 q64 q689) rfl rfl rfl (by decide +kernel) ⟨Nat.le_of_ble_eq_true rfl, Nat.le_of_ble_eq_true rfl⟩) ⟨fun a U g mk q => by obtain ⟨q0, q1, qP, qK, qD, qS⟩ := q; exact ⟨q0, q1, qP, qK.call, qD, stS.moved (u := U) (U := U.calling g mk a) (Vm.Alike.refl U.vm) rfl qS⟩, va_recv hK.1 hP (ci := 8) (q0 := 2) rfl rfl, fun U hU hW => ⟨rfl, by rw [hU], by rw [hU]; exact hPc, hK.warm hW, hDc.weaken (fun _ _ _ _ => trivial), hX.at hS hU hW⟩⟩ rfl rfl hl.1 rfl (lv_room (Nat.le_of_ble_eq_true rfl)) dX0_item_20 ⟨Nat.le_of_ble_eq_true rfl, Nat.le_of_ble_eq_true rfl⟩) hS (fun q _ h => hFc q h) hFc (fun u_4 t H1 locs ht hvm hw hB hz1 hk1 hS => ?_) (fun k_6 x_5 t H1 locs ht hvm hw hxo hB hz1 hk1 hS => ?_)
    · obtain ⟨hP1, hD1⟩ := hB
      rw [ht] at hP1
      obtain ⟨hP, hD⟩ := va_join (wr := [oc h 0 [.ref h_kinds, .ref h_now, .ref h_fault, .ref h_tape, .int taped, .int reads, .ref h_got, .ref h_failing, .ref h_past, .int undoMany, .ref h_aside, .ref h_best, .ref h_tried, .ref h_kept, .ref h_keptPast, .int keptMany, .int isKept, .ref h_sheets], arf G h_sheets 7 4 shf]) (w1 := [oc h_sheets_x 8 [.ref h_sheets_x_r], ai G h_sheets_x_r rn u_4]) hP hD [2, 3] [0, 1] rfl rfl (by decide) (by decide) hk1 hFc hP1 hD1
      clear hPc hDc hFc hP1 hD1 hz1 hk1 hvm
      generalize H1 = H at hP hS ⊢
      have hP : va_P G.1 gCl [oc h 0 [.ref h_kinds, .ref h_now, .ref h_fault, .ref h_tape, .int taped, .int reads, .ref h_got, .ref h_failing, .ref h_past, .int undoMany, .ref h_aside, .ref h_best, .ref h_tried, .ref h_kept, .ref h_keptPast, .int keptMany, .int isKept, .ref h_sheets], arf G h_sheets 7 4 shf, oc h_sheets_x 8 [.ref h_sheets_x_r], ai G h_sheets_x_r rn u_4] H := hP
      have hD : va_D A [oc h 0 [.ref h_kinds, .ref h_now, .ref h_fault, .ref h_tape, .int taped, .int reads, .ref h_got, .ref h_failing, .ref h_past, .int undoMany, .ref h_aside, .ref h_best, .ref h_tried, .ref h_kept, .ref h_keptPast, .int keptMany, .int isKept, .ref h_sheets], arf G h_sheets 7 4 shf, oc h_sheets_x 8 [.ref h_sheets_x_r], ai G h_sheets_x_r rn u_4] := hD
      refine lv_goto (tgt := 41) hx hb dX0_item_23 (by decide) ?_
      refine lv_iconst (v := (1 : Int32)) hx hb dX0_item_41 (by decide) ?_
      have hP9 := hP
      have hD9 := hD
      exact w_widen (k := 3) (n := 1010) (by first | exact Nat.le_of_ble_eq_true rfl | omega) (by first | exact Nat.le_of_ble_eq_true rfl | omega) (W.iret (v := (1 : Int32)) hx hb hr (fun t ht hW => ⟨⟨(1 : Int32), u_4, rfl, hw, by rw [ht]; exact hP9, hD9⟩, hS.F ht⟩) hS.2.2 dX0_item_42)
    · obtain ⟨hP1, hD1⟩ := hB
      rw [ht] at hP1
      obtain ⟨hP, hD⟩ := va_join (wr := [oc h 0 [.ref h_kinds, .ref h_now, .ref h_fault, .ref h_tape, .int taped, .int reads, .ref h_got, .ref h_failing, .ref h_past, .int undoMany, .ref h_aside, .ref h_best, .ref h_tried, .ref h_kept, .ref h_keptPast, .int keptMany, .int isKept, .ref h_sheets], arf G h_sheets 7 4 shf]) (w1 := [oc h_sheets_x 8 [.ref h_sheets_x_r], ai G h_sheets_x_r rn rw]) hP hD [2, 3] [0, 1] rfl rfl (by decide) (by decide) hk1 hFc hP1 hD1
      clear hPc hDc hFc hP1 hD1 hz1 hk1 hvm
      generalize H1 = H at hP hS hxo ⊢
      have hP : va_P G.1 gCl [oc h 0 [.ref h_kinds, .ref h_now, .ref h_fault, .ref h_tape, .int taped, .int reads, .ref h_got, .ref h_failing, .ref h_past, .int undoMany, .ref h_aside, .ref h_best, .ref h_tried, .ref h_kept, .ref h_keptPast, .int keptMany, .int isKept, .ref h_sheets], arf G h_sheets 7 4 shf, oc h_sheets_x 8 [.ref h_sheets_x_r], ai G h_sheets_x_r rn rw] H := hP
      have hD : va_D A [oc h 0 [.ref h_kinds, .ref h_now, .ref h_fault, .ref h_tape, .int taped, .int reads, .ref h_got, .ref h_failing, .ref h_past, .int undoMany, .ref h_aside, .ref h_best, .ref h_tried, .ref h_kept, .ref h_keptPast, .int keptMany, .int isKept, .ref h_sheets], arf G h_sheets 7 4 shf, oc h_sheets_x 8 [.ref h_sheets_x_r], ai G h_sheets_x_r rn rw] := hD
      rcases hw.1 with ek | ek | ek
      · subst ek
        replace hw := hw.2.1 rfl
        obtain ⟨ce, hce, hcv, hcc⟩ := hxo
        refine wx_catch (cell := ce) hce (by rw [hcv]; rfl) [] ⟨10, 23, 26, 354⟩ [⟨10, 23, 31, 356⟩, ⟨10, 23, 36, 358⟩] hhd (fun _ _ z hz => by cases hz) (by decide) (by decide) hown (hts _ q734) (cT := ce.cls) hcc (vm_refl (args := #[]) (hK.n q756 rfl) hcc) ?_
        refine lv_astore (lv' := [(6, .ref x_5), (0, .ref h), (1, .int p1), (2, .int p2), (3, .int p3), (4, .long p4)]) hx hb dX0_item_26 hl (by decide) rfl (fun ls hl => ?_)
        refine lv_bipush (v := (-11 : Int32)) hx hb dX0_item_28 (by decide) ?_
        have hP9 := hP
        have hD9 := hD
        exact w_widen (k := 3) (n := 1010) (by first | exact Nat.le_of_ble_eq_true rfl | omega) (by first | exact Nat.le_of_ble_eq_true rfl | omega) (W.iret (v := (-11 : Int32)) hx hb hr (fun t ht hW => ⟨⟨(-11 : Int32), rw, rfl, hw, by rw [ht]; exact hP9, hD9⟩, hS.F ht⟩) hS.2.2 dX0_item_30)
      · subst ek
        replace hw := hw.2.2.1 rfl
        obtain ⟨ce, hce, hcv, hcc⟩ := hxo
        refine wx_catch (cell := ce) hce (by rw [hcv]; rfl) [⟨10, 23, 26, 354⟩] ⟨10, 23, 31, 356⟩ [⟨10, 23, 36, 358⟩] hhd (fun pl hpl z hz => (List.forall_mem_cons.mpr ⟨x_pass (z := ⟨10, 23, 26, 354⟩) (by decide) (by decide) hown (hts _ q734) (hK.2.2 ("java/lang/ClassCastException", "java/lang/NullPointerException") (by decide +kernel)) hcc pl hpl, fun _ h9 => absurd h9 List.not_mem_nil⟩) z hz) (by decide) (by decide) hown (hts _ q759) (cT := ce.cls) hcc (vm_refl (args := #[]) (hK.n q771 rfl) hcc) ?_
        refine lv_astore (lv' := [(6, .ref x_5), (0, .ref h), (1, .int p1), (2, .int p2), (3, .int p3), (4, .long p4)]) hx hb dX0_item_31 hl (by decide) rfl (fun ls hl => ?_)
        refine lv_bipush (v := (-12 : Int32)) hx hb dX0_item_33 (by decide) ?_
        have hP9 := hP
        have hD9 := hD
        exact w_widen (k := 3) (n := 1010) (by first | exact Nat.le_of_ble_eq_true rfl | omega) (by first | exact Nat.le_of_ble_eq_true rfl | omega) (W.iret (v := (-12 : Int32)) hx hb hr (fun t ht hW => ⟨⟨(-12 : Int32), rw, rfl, hw, by rw [ht]; exact hP9, hD9⟩, hS.F ht⟩) hS.2.2 dX0_item_35)
      · subst ek
        replace hw := hw.2.2.2 rfl
        obtain ⟨ce, hce, hcv, hcc⟩ := hxo
        refine wx_catch (cell := ce) hce (by rw [hcv]; rfl) [⟨10, 23, 26, 354⟩, ⟨10, 23, 31, 356⟩] ⟨10, 23, 36, 358⟩ [] hhd (fun pl hpl z hz => (List.forall_mem_cons.mpr ⟨x_pass (z := ⟨10, 23, 26, 354⟩) (by decide) (by decide) hown (hts _ q734) (hK.2.2 ("java/lang/ArrayIndexOutOfBoundsException", "java/lang/NullPointerException") (by decide +kernel)) hcc pl hpl, (List.forall_mem_cons.mpr ⟨x_pass (z := ⟨10, 23, 31, 356⟩) (by decide) (by decide) hown (hts _ q759) (hK.2.2 ("java/lang/ArrayIndexOutOfBoundsException", "java/lang/ClassCastException") (by decide +kernel)) hcc pl hpl, fun _ h9 => absurd h9 List.not_mem_nil⟩)⟩) z hz) (by decide) (by decide) hown (hts _ q773) (cT := ce.cls) hcc (vm_refl (args := #[]) (hK.n q788 rfl) hcc) ?_
        refine lv_astore (lv' := [(6, .ref x_5), (0, .ref h), (1, .int p1), (2, .int p2), (3, .int p3), (4, .long p4)]) hx hb dX0_item_36 hl (by decide) rfl (fun ls hl => ?_)
        refine lv_bipush (v := (-13 : Int32)) hx hb dX0_item_38 (by decide) ?_
        have hP9 := hP
        have hD9 := hD
        exact w_widen (k := 3) (n := 1010) (by first | exact Nat.le_of_ble_eq_true rfl | omega) (by first | exact Nat.le_of_ble_eq_true rfl | omega) (W.iret (v := (-13 : Int32)) hx hb hr (fun t ht hW => ⟨⟨(-13 : Int32), rw, rfl, hw, by rw [ht]; exact hP9, hD9⟩, hS.F ht⟩) hS.2.2 dX0_item_40)
  · replace hw := hw.2 c_2
    refine lv_iconst (v := (-1 : Int32)) hx hb dX0_item_8 (by decide) ?_
    have hP9 := hP
    have hD9 := hD
    exact w_widen (k := 3) (n := 1010) (by first | exact Nat.le_of_ble_eq_true rfl | omega) (by first | exact Nat.le_of_ble_eq_true rfl | omega) (W.iret (v := (-1 : Int32)) hx hb hr (fun t ht hW => ⟨⟨(-1 : Int32), rw, rfl, hw, by rw [ht]; exact hP9, hD9⟩, hS.F ht⟩) hS.2.2 dX0_item_9)
/-! BattleBench.item(IIIJ)I -/
def wp_X0_item_J (rn : Nat) (rw : Nat → Int64) (p1 : Int32) (p2 : Int32) (p3 : Int32) (p4 : Int64) (Q : Int32 → ((Nat → Int64)) → Prop) : Prop :=
  wp_X0_isSheet  p1 p2 (fun r_1 => ((¬ (r_1 = 0) → (vp_in p1 4 ∧ wp_X8_lay_J_x rn rw p2 p3 p4 (fun u_4 => Q (1 : Int32) u_4) (fun k_6 => (k_6 = 0 ∨ k_6 = 1 ∨ k_6 = 2) ∧ (k_6 = 0 → Q (-11 : Int32) rw) ∧ (k_6 = 1 → Q (-12 : Int32) rw) ∧ (k_6 = 2 → Q (-13 : Int32) rw)))) ∧ ((r_1 = 0) → Q (-1 : Int32) rw)))
set_option maxHeartbeats 4000000 in
theorem mt_X0_item_J (l : Launch) (G : GT) (aS : Nat) (hfl : l.flags = pinnedFlags ++ [noTraceFlag]) (h h_kinds h_now h_fault h_tape h_got h_failing h_past h_aside h_best h_tried h_kept h_keptPast h_sheets h_sheets_x h_sheets_x_r : Nat) (shf : Nat → Option Nat) (sz : Nat) (taped : Int32) (reads : Int32) (undoMany : Int32) (keptMany : Int32) (isKept : Int32) (rn : Nat) (rw : Nat → Int64) (p1 : Int32) (p2 : Int32) (p3 : Int32) (p4 : Int64)(hsh : shf p1.toNatClampNeg = some h_sheets_x) (Q : Int32 → ((Nat → Int64)) → Prop) (hw : wp_X0_item_J rn rw p1 p2 p3 p4 Q) : Met l yX0_item (wsW_ yX0_item cX0_item 7 (some .int) [(10, 23, 26, 354), (10, 23, 31, 356), (10, 23, 36, 358)]) ({ frames := 9, cells := 3, slots := 1010, locals := 10272 } : Room) (va_Pc [.ref h, .int p1, .int p2, .int p3, .long p4] (fun U => U.heap.size = sz ∧ va_P G.1 gCl [oc h 0 [.ref h_kinds, .ref h_now, .ref h_fault, .ref h_tape, .int taped, .int reads, .ref h_got, .ref h_failing, .ref h_past, .int undoMany, .ref h_aside, .ref h_best, .ref h_tried, .ref h_kept, .ref h_keptPast, .int keptMany, .int isKept, .ref h_sheets], arf G h_sheets 7 4 shf, oc h_sheets_x 8 [.ref h_sheets_x_r], al G h_sheets_x_r rn rw] U.heap ∧ gK G U ∧ va_D (fun _ => True) [oc h 0 [.ref h_kinds, .ref h_now, .ref h_fault, .ref h_tape, .int taped, .int reads, .ref h_got, .ref h_failing, .ref h_past, .int undoMany, .ref h_aside, .ref h_best, .ref h_tried, .ref h_kept, .ref h_keptPast, .int keptMany, .int isKept, .ref h_sheets], arf G h_sheets 7 4 shf, oc h_sheets_x 8 [.ref h_sheets_x_r], al G h_sheets_x_r rn rw] ∧ stS aS U)) ((fun A => (va_Qi (fun (r : Int32) (u : (Nat → Int64)) => Q r u) (fun u t => va_P G.1 gCl [oc h 0 [.ref h_kinds, .ref h_now, .ref h_fault, .ref h_tape, .int taped, .int reads, .ref h_got, .ref h_failing, .ref h_past, .int undoMany, .ref h_aside, .ref h_best, .ref h_tried, .ref h_kept, .ref h_keptPast, .int keptMany, .int isKept, .ref h_sheets], arf G h_sheets 7 4 shf, oc h_sheets_x 8 [.ref h_sheets_x_r], al G h_sheets_x_r rn u] t.heap ∧ va_D A [oc h 0 [.ref h_kinds, .ref h_now, .ref h_fault, .ref h_tape, .int taped, .int reads, .ref h_got, .ref h_failing, .ref h_past, .int undoMany, .ref h_aside, .ref h_best, .ref h_tried, .ref h_kept, .ref h_keptPast, .int keptMany, .int isKept, .ref h_sheets], arf G h_sheets 7 4 shf, oc h_sheets_x 8 [.ref h_sheets_x_r], al G h_sheets_x_r rn u]) A)) (va_A [oc h 0 [.ref h_kinds, .ref h_now, .ref h_fault, .ref h_tape, .int taped, .int reads, .ref h_got, .ref h_failing, .ref h_past, .int undoMany, .ref h_aside, .ref h_best, .ref h_tried, .ref h_kept, .ref h_keptPast, .int keptMany, .int isKept, .ref h_sheets], arf G h_sheets 7 4 shf, oc h_sheets_x 8 [.ref h_sheets_x_r], al G h_sheets_x_r rn rw] sz)) 3 1010 (va_A [oc h 0 [.ref h_kinds, .ref h_now, .ref h_fault, .ref h_tape, .int taped, .int reads, .ref h_got, .ref h_failing, .ref h_past, .int undoMany, .ref h_aside, .ref h_best, .ref h_tried, .ref h_kept, .ref h_keptPast, .int keptMany, .int isKept, .ref h_sheets], arf G h_sheets 7 4 shf, oc h_sheets_x 8 [.ref h_sheets_x_r], al G h_sheets_x_r rn rw] sz) := by
  refine va_MetW (hh := [(10, 23, 26, 354), (10, 23, 31, 356), (10, 23, 36, 358)]) (cc := cX0_item) (maxL := 7) (ret := (some .int)) (by decide) rfl ?_
  intro p e s m args below meth c s₁ B hml hv
  obtain ⟨rfl, hsz, hP, hK, hD0, hst⟩ := hv
  have hx := B.exec
  have hb := B.bytes
  have hr := B.returns
  have hts := atoms_spec (ws := (wsW_ yX0_item cX0_item 7 (some .int) [(10, 23, 26, 354), (10, 23, 31, 356), (10, 23, 36, 358)])) B.pre
  have hts : ∀ w ∈ lw_all, w.before _ s = true := fun w h => hts w (List.mem_cons_of_mem _ h)
  have hown : s.vm.findClass RX0 = some m.cls := findClass_of_methodNamed B.named
  have hlocks := B.notSynchronized
  have hhd : c.exceptionTable.toList = [⟨10, 23, 26, 354⟩, ⟨10, 23, 31, 356⟩, ⟨10, 23, 36, 358⟩] := x_hand B (atoms_spec (ws := (wsW_ yX0_item cX0_item 7 (some .int) [(10, 23, 26, 354), (10, 23, 31, 356), (10, 23, 36, 358)])) B.pre _ List.mem_cons_self)
  subst hsz
  have hD := hD0.self (sz := s.heap.size)
  generalize hAe : va_A [oc h 0 [.ref h_kinds, .ref h_now, .ref h_fault, .ref h_tape, .int taped, .int reads, .ref h_got, .ref h_failing, .ref h_past, .int undoMany, .ref h_aside, .ref h_best, .ref h_tried, .ref h_kept, .ref h_keptPast, .int keptMany, .int isKept, .ref h_sheets], arf G h_sheets 7 4 shf, oc h_sheets_x 8 [.ref h_sheets_x_r], al G h_sheets_x_r rn rw] s.heap.size = A at hD ⊢
  have hA : ∀ q : Nat, s.heap.size ≤ q → A q := fun q h => by rw [← hAe]; exact Or.inr h
  have hS : va_S A s.heap s.heap [] := va_S.rf
  have hX : XCx l aS s A := ⟨hfl, hst, fun q cell hq hc => va_A.ns hP (by rw [hAe]; exact hq) hc⟩
  have C : Cx p s m meth c cX0_item 7 (some .int) RX0 ([.ref h, .int p1, .int p2, .int p3, .long p4] : List Value).toArray G A := ⟨hx, hb, hr, hlocks, hml, hown, hts, hK, hA⟩
  have hl := lv_entry ([.ref h, .int p1, .int p2, .int p3, .long p4]) (n := 7) (Nat.le_of_ble_eq_true rfl)
  rw [lg_entry_eq]
  generalize (lg_sl ([.ref h, .int p1, .int p2, .int p3, .long p4]) ++ List.replicate (7 - (lg_sl ([.ref h, .int p1, .int p2, .int p3, .long p4])).length) Slot.unset).toArray = ls at hl ⊢
  have hl : lv_has ls 7 [(0, .ref h), (1, .int p1), (2, .int p2), (3, .int p3), (4, .long p4)] := hl
  unfold wp_X0_item_J at hw
  refine lv_iload_n hx hb dX0_item_0 rfl (lv_at hl 1 rfl) ?_
  refine lv_iload_n hx hb dX0_item_1 rfl (lv_at hl 2 rfl) ?_
  have hPc := hP.sub (ws' := []) [] rfl
  have hDc := hD.sub (ws' := []) [] (by decide) rfl
  have hFc := va_free (wc := []) hD hS hA [] rfl
  refine va_calli (va_runS (As := [.int p1, .int p2]) (rest := []) ⟨hx, hb, hml, hown, hts⟩ (mt_X0_isSheet l G  s.heap.size  p1 p2 _ hw) (va_cwS 2 hts (lw_S q648 q649 q54 q650) rfl rfl rfl (by decide +kernel) ⟨Nat.le_of_ble_eq_true rfl, Nat.le_of_ble_eq_true rfl⟩) ⟨fun a U g mk q => by obtain ⟨q0, q1, qP, qK, qD⟩ := q; exact ⟨q0, q1, qP, qK.call, qD⟩, fun U hU hW => ⟨rfl, by rw [hU], by rw [hU]; exact hPc, hK.warm hW, hDc.weaken (fun _ _ _ _ => trivial)⟩⟩ rfl rfl hl.1 rfl (lv_room (Nat.le_of_ble_eq_true rfl)) dX0_item_2 ⟨Nat.le_of_ble_eq_true rfl, Nat.le_of_ble_eq_true rfl⟩) hS (fun q _ h => hFc q h) hFc (fun r_1 _ t H1 locs ht hvm hw hB hz1 hk1 hS => ?_)
  obtain ⟨hP1, hD1⟩ := hB
  rw [ht] at hP1
  obtain ⟨hP, hD⟩ := va_join (wr := [oc h 0 [.ref h_kinds, .ref h_now, .ref h_fault, .ref h_tape, .int taped, .int reads, .ref h_got, .ref h_failing, .ref h_past, .int undoMany, .ref h_aside, .ref h_best, .ref h_tried, .ref h_kept, .ref h_keptPast, .int keptMany, .int isKept, .ref h_sheets], arf G h_sheets 7 4 shf, oc h_sheets_x 8 [.ref h_sheets_x_r], al G h_sheets_x_r rn rw]) (w1 := []) hP hD [] [0, 1, 2, 3] rfl rfl (by decide) (by decide) hk1 hFc hP1 hD1
  clear hPc hDc hFc hP1 hD1 hz1 hk1 hvm
  generalize H1 = H at hP hS ⊢
  have hP : va_P G.1 gCl [oc h 0 [.ref h_kinds, .ref h_now, .ref h_fault, .ref h_tape, .int taped, .int reads, .ref h_got, .ref h_failing, .ref h_past, .int undoMany, .ref h_aside, .ref h_best, .ref h_tried, .ref h_kept, .ref h_keptPast, .int keptMany, .int isKept, .ref h_sheets], arf G h_sheets 7 4 shf, oc h_sheets_x 8 [.ref h_sheets_x_r], al G h_sheets_x_r rn rw] H := hP
  have hD : va_D A [oc h 0 [.ref h_kinds, .ref h_now, .ref h_fault, .ref h_tape, .int taped, .int reads, .ref h_got, .ref h_failing, .ref h_past, .int undoMany, .ref h_aside, .ref h_best, .ref h_tried, .ref h_kept, .ref h_keptPast, .int keptMany, .int isKept, .ref h_sheets], arf G h_sheets 7 4 shf, oc h_sheets_x 8 [.ref h_sheets_x_r], al G h_sheets_x_r rn rw] := hD
  refine lv_if_ne (tgt := 10) hx hb dX0_item_5 (by decide) (fun c_2 => ?_) (fun c_2 => ?_)
  · replace hw := hw.1 c_2
    refine lv_aload_n hx hb dX0_item_10 rfl (lv_at hl 0 rfl) ?_
    refine va_get (D := G.1) (ci := 0) (v := .ref h_sheets) (C := RX0) (T := TX0) (N := 18) hx hb hts in_X0 hown hK.1 hP 0 rfl rfl 17 (by decide) (hts _ q273) (fun _ h9 => h9) rfl dX0_item_11 ?_
    refine lv_iload_n hx hb dX0_item_14 rfl (lv_at hl 1 rfl) ?_
    obtain ⟨i_3, hw⟩ := hw
    refine z_aaldS hx hb hK.1 hP 1 7 rfl rfl i_3 dX0_item_15 hsh ?_
    refine lv_iload_n hx hb dX0_item_16 rfl (lv_at hl 2 rfl) ?_
    refine lv_iload_n hx hb dX0_item_17 rfl (lv_at hl 3 rfl) ?_
    refine lv_lload hx hb dX0_item_18 (lv_at hl 4 rfl) ?_
    have hPc := hP.sub (ws' := [oc h_sheets_x 8 [.ref h_sheets_x_r], al G h_sheets_x_r rn rw]) [2, 3] rfl
    have hDc := hD.sub (ws' := [oc h_sheets_x 8 [.ref h_sheets_x_r], al G h_sheets_x_r rn rw]) [2, 3] (by decide) rfl
    have hFc := va_free (wc := [oc h_sheets_x 8 [.ref h_sheets_x_r], al G h_sheets_x_r rn rw]) hD hS hA [2, 3] rfl
    refine va_callEv (va_runVT (As := [.int p2, .int p3, .long p4]) (rest := []) ⟨hx, hb, hml, hown, hts⟩ (mt_X8_lay_J_x l G aS hfl h_sheets_x h_sheets_x_r H.size rn rw p2 p3 p4 _ _ hw) (cwV 3 hts (lw_V q686 q687 q688 q64 q689) rfl rfl rfl (by decide +kernel) ⟨Nat.le_of_ble_eq_true rfl, Nat.le_of_ble_eq_true rfl⟩) ⟨fun a U g mk q => by obtain ⟨q0, q1, qP, qK, qD, qS⟩ := q; exact ⟨q0, q1, qP, qK.call, qD, stS.moved (u := U) (U := U.calling g mk a) (Vm.Alike.refl U.vm) rfl qS⟩, va_recv hK.1 hP (ci := 8) (q0 := 2) rfl rfl, fun U hU hW => ⟨rfl, by rw [hU], by rw [hU]; exact hPc, hK.warm hW, hDc.weaken (fun _ _ _ _ => trivial), hX.at hS hU hW⟩⟩ rfl rfl hl.1 rfl (lv_room (Nat.le_of_ble_eq_true rfl)) dX0_item_20 ⟨Nat.le_of_ble_eq_true rfl, Nat.le_of_ble_eq_true rfl⟩) hS (fun q _ h => hFc q h) hFc (fun u_4 t H1 locs ht hvm hw hB hz1 hk1 hS => ?_) (fun k_6 x_5 t H1 locs ht hvm hw hxo hB hz1 hk1 hS => ?_)
    · obtain ⟨hP1, hD1⟩ := hB
      rw [ht] at hP1
      obtain ⟨hP, hD⟩ := va_join (wr := [oc h 0 [.ref h_kinds, .ref h_now, .ref h_fault, .ref h_tape, .int taped, .int reads, .ref h_got, .ref h_failing, .ref h_past, .int undoMany, .ref h_aside, .ref h_best, .ref h_tried, .ref h_kept, .ref h_keptPast, .int keptMany, .int isKept, .ref h_sheets], arf G h_sheets 7 4 shf]) (w1 := [oc h_sheets_x 8 [.ref h_sheets_x_r], al G h_sheets_x_r rn u_4]) hP hD [2, 3] [0, 1] rfl rfl (by decide) (by decide) hk1 hFc hP1 hD1
      clear hPc hDc hFc hP1 hD1 hz1 hk1 hvm
      generalize H1 = H at hP hS ⊢
      have hP : va_P G.1 gCl [oc h 0 [.ref h_kinds, .ref h_now, .ref h_fault, .ref h_tape, .int taped, .int reads, .ref h_got, .ref h_failing, .ref h_past, .int undoMany, .ref h_aside, .ref h_best, .ref h_tried, .ref h_kept, .ref h_keptPast, .int keptMany, .int isKept, .ref h_sheets], arf G h_sheets 7 4 shf, oc h_sheets_x 8 [.ref h_sheets_x_r], al G h_sheets_x_r rn u_4] H := hP
      have hD : va_D A [oc h 0 [.ref h_kinds, .ref h_now, .ref h_fault, .ref h_tape, .int taped, .int reads, .ref h_got, .ref h_failing, .ref h_past, .int undoMany, .ref h_aside, .ref h_best, .ref h_tried, .ref h_kept, .ref h_keptPast, .int keptMany, .int isKept, .ref h_sheets], arf G h_sheets 7 4 shf, oc h_sheets_x 8 [.ref h_sheets_x_r], al G h_sheets_x_r rn u_4] := hD
      refine lv_goto (tgt := 41) hx hb dX0_item_23 (by decide) ?_
      refine lv_iconst (v := (1 : Int32)) hx hb dX0_item_41 (by decide) ?_
      have hP9 := hP
      have hD9 := hD
      exact w_widen (k := 3) (n := 1010) (by first | exact Nat.le_of_ble_eq_true rfl | omega) (by first | exact Nat.le_of_ble_eq_true rfl | omega) (W.iret (v := (1 : Int32)) hx hb hr (fun t ht hW => ⟨⟨(1 : Int32), u_4, rfl, hw, by rw [ht]; exact hP9, hD9⟩, hS.F ht⟩) hS.2.2 dX0_item_42)
    · obtain ⟨hP1, hD1⟩ := hB
      rw [ht] at hP1
      obtain ⟨hP, hD⟩ := va_join (wr := [oc h 0 [.ref h_kinds, .ref h_now, .ref h_fault, .ref h_tape, .int taped, .int reads, .ref h_got, .ref h_failing, .ref h_past, .int undoMany, .ref h_aside, .ref h_best, .ref h_tried, .ref h_kept, .ref h_keptPast, .int keptMany, .int isKept, .ref h_sheets], arf G h_sheets 7 4 shf]) (w1 := [oc h_sheets_x 8 [.ref h_sheets_x_r], al G h_sheets_x_r rn rw]) hP hD [2, 3] [0, 1] rfl rfl (by decide) (by decide) hk1 hFc hP1 hD1
      clear hPc hDc hFc hP1 hD1 hz1 hk1 hvm
      generalize H1 = H at hP hS hxo ⊢
      have hP : va_P G.1 gCl [oc h 0 [.ref h_kinds, .ref h_now, .ref h_fault, .ref h_tape, .int taped, .int reads, .ref h_got, .ref h_failing, .ref h_past, .int undoMany, .ref h_aside, .ref h_best, .ref h_tried, .ref h_kept, .ref h_keptPast, .int keptMany, .int isKept, .ref h_sheets], arf G h_sheets 7 4 shf, oc h_sheets_x 8 [.ref h_sheets_x_r], al G h_sheets_x_r rn rw] H := hP
      have hD : va_D A [oc h 0 [.ref h_kinds, .ref h_now, .ref h_fault, .ref h_tape, .int taped, .int reads, .ref h_got, .ref h_failing, .ref h_past, .int undoMany, .ref h_aside, .ref h_best, .ref h_tried, .ref h_kept, .ref h_keptPast, .int keptMany, .int isKept, .ref h_sheets], arf G h_sheets 7 4 shf, oc h_sheets_x 8 [.ref h_sheets_x_r], al G h_sheets_x_r rn rw] := hD
      rcases hw.1 with ek | ek | ek
      · subst ek
        replace hw := hw.2.1 rfl
        obtain ⟨ce, hce, hcv, hcc⟩ := hxo
        refine wx_catch (cell := ce) hce (by rw [hcv]; rfl) [] ⟨10, 23, 26, 354⟩ [⟨10, 23, 31, 356⟩, ⟨10, 23, 36, 358⟩] hhd (fun _ _ z hz => by cases hz) (by decide) (by decide) hown (hts _ q734) (cT := ce.cls) hcc (vm_refl (args := #[]) (hK.n q756 rfl) hcc) ?_
        refine lv_astore (lv' := [(6, .ref x_5), (0, .ref h), (1, .int p1), (2, .int p2), (3, .int p3), (4, .long p4)]) hx hb dX0_item_26 hl (by decide) rfl (fun ls hl => ?_)
        refine lv_bipush (v := (-11 : Int32)) hx hb dX0_item_28 (by decide) ?_
        have hP9 := hP
        have hD9 := hD
        exact w_widen (k := 3) (n := 1010) (by first | exact Nat.le_of_ble_eq_true rfl | omega) (by first | exact Nat.le_of_ble_eq_true rfl | omega) (W.iret (v := (-11 : Int32)) hx hb hr (fun t ht hW => ⟨⟨(-11 : Int32), rw, rfl, hw, by rw [ht]; exact hP9, hD9⟩, hS.F ht⟩) hS.2.2 dX0_item_30)
      · subst ek
        replace hw := hw.2.2.1 rfl
        obtain ⟨ce, hce, hcv, hcc⟩ := hxo
        refine wx_catch (cell := ce) hce (by rw [hcv]; rfl) [⟨10, 23, 26, 354⟩] ⟨10, 23, 31, 356⟩ [⟨10, 23, 36, 358⟩] hhd (fun pl hpl z hz => (List.forall_mem_cons.mpr ⟨x_pass (z := ⟨10, 23, 26, 354⟩) (by decide) (by decide) hown (hts _ q734) (hK.2.2 ("java/lang/ClassCastException", "java/lang/NullPointerException") (by decide +kernel)) hcc pl hpl, fun _ h9 => absurd h9 List.not_mem_nil⟩) z hz) (by decide) (by decide) hown (hts _ q759) (cT := ce.cls) hcc (vm_refl (args := #[]) (hK.n q771 rfl) hcc) ?_
        refine lv_astore (lv' := [(6, .ref x_5), (0, .ref h), (1, .int p1), (2, .int p2), (3, .int p3), (4, .long p4)]) hx hb dX0_item_31 hl (by decide) rfl (fun ls hl => ?_)
        refine lv_bipush (v := (-12 : Int32)) hx hb dX0_item_33 (by decide) ?_
        have hP9 := hP
        have hD9 := hD
        exact w_widen (k := 3) (n := 1010) (by first | exact Nat.le_of_ble_eq_true rfl | omega) (by first | exact Nat.le_of_ble_eq_true rfl | omega) (W.iret (v := (-12 : Int32)) hx hb hr (fun t ht hW => ⟨⟨(-12 : Int32), rw, rfl, hw, by rw [ht]; exact hP9, hD9⟩, hS.F ht⟩) hS.2.2 dX0_item_35)
      · subst ek
        replace hw := hw.2.2.2 rfl
        obtain ⟨ce, hce, hcv, hcc⟩ := hxo
        refine wx_catch (cell := ce) hce (by rw [hcv]; rfl) [⟨10, 23, 26, 354⟩, ⟨10, 23, 31, 356⟩] ⟨10, 23, 36, 358⟩ [] hhd (fun pl hpl z hz => (List.forall_mem_cons.mpr ⟨x_pass (z := ⟨10, 23, 26, 354⟩) (by decide) (by decide) hown (hts _ q734) (hK.2.2 ("java/lang/ArrayIndexOutOfBoundsException", "java/lang/NullPointerException") (by decide +kernel)) hcc pl hpl, (List.forall_mem_cons.mpr ⟨x_pass (z := ⟨10, 23, 31, 356⟩) (by decide) (by decide) hown (hts _ q759) (hK.2.2 ("java/lang/ArrayIndexOutOfBoundsException", "java/lang/ClassCastException") (by decide +kernel)) hcc pl hpl, fun _ h9 => absurd h9 List.not_mem_nil⟩)⟩) z hz) (by decide) (by decide) hown (hts _ q773) (cT := ce.cls) hcc (vm_refl (args := #[]) (hK.n q788 rfl) hcc) ?_
        refine lv_astore (lv' := [(6, .ref x_5), (0, .ref h), (1, .int p1), (2, .int p2), (3, .int p3), (4, .long p4)]) hx hb dX0_item_36 hl (by decide) rfl (fun ls hl => ?_)
        refine lv_bipush (v := (-13 : Int32)) hx hb dX0_item_38 (by decide) ?_
        have hP9 := hP
        have hD9 := hD
        exact w_widen (k := 3) (n := 1010) (by first | exact Nat.le_of_ble_eq_true rfl | omega) (by first | exact Nat.le_of_ble_eq_true rfl | omega) (W.iret (v := (-13 : Int32)) hx hb hr (fun t ht hW => ⟨⟨(-13 : Int32), rw, rfl, hw, by rw [ht]; exact hP9, hD9⟩, hS.F ht⟩) hS.2.2 dX0_item_40)
  · replace hw := hw.2 c_2
    refine lv_iconst (v := (-1 : Int32)) hx hb dX0_item_8 (by decide) ?_
    have hP9 := hP
    have hD9 := hD
    exact w_widen (k := 3) (n := 1010) (by first | exact Nat.le_of_ble_eq_true rfl | omega) (by first | exact Nat.le_of_ble_eq_true rfl | omega) (W.iret (v := (-1 : Int32)) hx hb hr (fun t ht hW => ⟨⟨(-1 : Int32), rw, rfl, hw, by rw [ht]; exact hP9, hD9⟩, hS.F ht⟩) hS.2.2 dX0_item_9)
/-! BattleBench.item(IIIJ)I -/
def wp_X0_item_N (p1 : Int32) (p2 : Int32) (p3 : Int32) (p4 : Int64) (Q : Int32 → Prop) : Prop :=
  wp_X0_isSheet  p1 p2 (fun r_1 => ((¬ (r_1 = 0) → (vp_in p1 4 ∧ wp_X8_lay_N_x  p2 p3 p4 (Q (1 : Int32)) (fun k_5 => (k_5 = 0 ∨ k_5 = 1 ∨ k_5 = 2) ∧ (k_5 = 0 → Q (-11 : Int32)) ∧ (k_5 = 1 → Q (-12 : Int32)) ∧ (k_5 = 2 → Q (-13 : Int32))))) ∧ ((r_1 = 0) → Q (-1 : Int32))))
set_option maxHeartbeats 4000000 in
theorem mt_X0_item_N (l : Launch) (G : GT) (aS : Nat) (hfl : l.flags = pinnedFlags ++ [noTraceFlag]) (h h_kinds h_now h_fault h_tape h_got h_failing h_past h_aside h_best h_tried h_kept h_keptPast h_sheets h_sheets_x : Nat) (shf : Nat → Option Nat) (sz : Nat) (taped : Int32) (reads : Int32) (undoMany : Int32) (keptMany : Int32) (isKept : Int32) (p1 : Int32) (p2 : Int32) (p3 : Int32) (p4 : Int64)(hsh : shf p1.toNatClampNeg = some h_sheets_x) (Q : Int32 → Prop) (hw : wp_X0_item_N p1 p2 p3 p4 Q) : Met l yX0_item (wsW_ yX0_item cX0_item 7 (some .int) [(10, 23, 26, 354), (10, 23, 31, 356), (10, 23, 36, 358)]) ({ frames := 9, cells := 3, slots := 1010, locals := 10272 } : Room) (va_Pc [.ref h, .int p1, .int p2, .int p3, .long p4] (fun U => U.heap.size = sz ∧ va_P G.1 gCl [oc h 0 [.ref h_kinds, .ref h_now, .ref h_fault, .ref h_tape, .int taped, .int reads, .ref h_got, .ref h_failing, .ref h_past, .int undoMany, .ref h_aside, .ref h_best, .ref h_tried, .ref h_kept, .ref h_keptPast, .int keptMany, .int isKept, .ref h_sheets], arf G h_sheets 7 4 shf, oc h_sheets_x 8 [.null]] U.heap ∧ gK G U ∧ va_D (fun _ => True) [oc h 0 [.ref h_kinds, .ref h_now, .ref h_fault, .ref h_tape, .int taped, .int reads, .ref h_got, .ref h_failing, .ref h_past, .int undoMany, .ref h_aside, .ref h_best, .ref h_tried, .ref h_kept, .ref h_keptPast, .int keptMany, .int isKept, .ref h_sheets], arf G h_sheets 7 4 shf, oc h_sheets_x 8 [.null]] ∧ stS aS U)) ((fun A => (va_Qi (fun (r : Int32) (u : Unit) => Q r ) (fun u t => va_P G.1 gCl [oc h 0 [.ref h_kinds, .ref h_now, .ref h_fault, .ref h_tape, .int taped, .int reads, .ref h_got, .ref h_failing, .ref h_past, .int undoMany, .ref h_aside, .ref h_best, .ref h_tried, .ref h_kept, .ref h_keptPast, .int keptMany, .int isKept, .ref h_sheets], arf G h_sheets 7 4 shf, oc h_sheets_x 8 [.null]] t.heap ∧ va_D A [oc h 0 [.ref h_kinds, .ref h_now, .ref h_fault, .ref h_tape, .int taped, .int reads, .ref h_got, .ref h_failing, .ref h_past, .int undoMany, .ref h_aside, .ref h_best, .ref h_tried, .ref h_kept, .ref h_keptPast, .int keptMany, .int isKept, .ref h_sheets], arf G h_sheets 7 4 shf, oc h_sheets_x 8 [.null]]) A)) (va_A [oc h 0 [.ref h_kinds, .ref h_now, .ref h_fault, .ref h_tape, .int taped, .int reads, .ref h_got, .ref h_failing, .ref h_past, .int undoMany, .ref h_aside, .ref h_best, .ref h_tried, .ref h_kept, .ref h_keptPast, .int keptMany, .int isKept, .ref h_sheets], arf G h_sheets 7 4 shf, oc h_sheets_x 8 [.null]] sz)) 3 1010 (va_A [oc h 0 [.ref h_kinds, .ref h_now, .ref h_fault, .ref h_tape, .int taped, .int reads, .ref h_got, .ref h_failing, .ref h_past, .int undoMany, .ref h_aside, .ref h_best, .ref h_tried, .ref h_kept, .ref h_keptPast, .int keptMany, .int isKept, .ref h_sheets], arf G h_sheets 7 4 shf, oc h_sheets_x 8 [.null]] sz) := by
  refine va_MetW (hh := [(10, 23, 26, 354), (10, 23, 31, 356), (10, 23, 36, 358)]) (cc := cX0_item) (maxL := 7) (ret := (some .int)) (by decide) rfl ?_
  intro p e s m args below meth c s₁ B hml hv
  obtain ⟨rfl, hsz, hP, hK, hD0, hst⟩ := hv
  have hx := B.exec
  have hb := B.bytes
  have hr := B.returns
  have hts := atoms_spec (ws := (wsW_ yX0_item cX0_item 7 (some .int) [(10, 23, 26, 354), (10, 23, 31, 356), (10, 23, 36, 358)])) B.pre
  have hts : ∀ w ∈ lw_all, w.before _ s = true := fun w h => hts w (List.mem_cons_of_mem _ h)
  have hown : s.vm.findClass RX0 = some m.cls := findClass_of_methodNamed B.named
  have hlocks := B.notSynchronized
  have hhd : c.exceptionTable.toList = [⟨10, 23, 26, 354⟩, ⟨10, 23, 31, 356⟩, ⟨10, 23, 36, 358⟩] := x_hand B (atoms_spec (ws := (wsW_ yX0_item cX0_item 7 (some .int) [(10, 23, 26, 354), (10, 23, 31, 356), (10, 23, 36, 358)])) B.pre _ List.mem_cons_self)
  subst hsz
  have hD := hD0.self (sz := s.heap.size)
  generalize hAe : va_A [oc h 0 [.ref h_kinds, .ref h_now, .ref h_fault, .ref h_tape, .int taped, .int reads, .ref h_got, .ref h_failing, .ref h_past, .int undoMany, .ref h_aside, .ref h_best, .ref h_tried, .ref h_kept, .ref h_keptPast, .int keptMany, .int isKept, .ref h_sheets], arf G h_sheets 7 4 shf, oc h_sheets_x 8 [.null]] s.heap.size = A at hD ⊢
  have hA : ∀ q : Nat, s.heap.size ≤ q → A q := fun q h => by rw [← hAe]; exact Or.inr h
  have hS : va_S A s.heap s.heap [] := va_S.rf
  have hX : XCx l aS s A := ⟨hfl, hst, fun q cell hq hc => va_A.ns hP (by rw [hAe]; exact hq) hc⟩
  have C : Cx p s m meth c cX0_item 7 (some .int) RX0 ([.ref h, .int p1, .int p2, .int p3, .long p4] : List Value).toArray G A := ⟨hx, hb, hr, hlocks, hml, hown, hts, hK, hA⟩
  have hl := lv_entry ([.ref h, .int p1, .int p2, .int p3, .long p4]) (n := 7) (Nat.le_of_ble_eq_true rfl)
  rw [lg_entry_eq]
  generalize (lg_sl ([.ref h, .int p1, .int p2, .int p3, .long p4]) ++ List.replicate (7 - (lg_sl ([.ref h, .int p1, .int p2, .int p3, .long p4])).length) Slot.unset).toArray = ls at hl ⊢
  have hl : lv_has ls 7 [(0, .ref h), (1, .int p1), (2, .int p2), (3, .int p3), (4, .long p4)] := hl
  unfold wp_X0_item_N at hw
  refine lv_iload_n hx hb dX0_item_0 rfl (lv_at hl 1 rfl) ?_
  refine lv_iload_n hx hb dX0_item_1 rfl (lv_at hl 2 rfl) ?_
  have hPc := hP.sub (ws' := []) [] rfl
  have hDc := hD.sub (ws' := []) [] (by decide) rfl
  have hFc := va_free (wc := []) hD hS hA [] rfl
  refine va_calli (va_runS (As := [.int p1, .int p2]) (rest := []) ⟨hx, hb, hml, hown, hts⟩ (mt_X0_isSheet l G  s.heap.size  p1 p2 _ hw) (va_cwS 2 hts (lw_S q648 q649 q54 q650) rfl rfl rfl (by decide +kernel) ⟨Nat.le_of_ble_eq_true rfl, Nat.le_of_ble_eq_true rfl⟩) ⟨fun a U g mk q => by obtain ⟨q0, q1, qP, qK, qD⟩ := q; exact ⟨q0, q1, qP, qK.call, qD⟩, fun U hU hW => ⟨rfl, by rw [hU], by rw [hU]; exact hPc, hK.warm hW, hDc.weaken (fun _ _ _ _ => trivial)⟩⟩ rfl rfl hl.1 rfl (lv_room (Nat.le_of_ble_eq_true rfl)) dX0_item_2 ⟨Nat.le_of_ble_eq_true rfl, Nat.le_of_ble_eq_true rfl⟩) hS (fun q _ h => hFc q h) hFc (fun r_1 _ t H1 locs ht hvm hw hB hz1 hk1 hS => ?_)
  obtain ⟨hP1, hD1⟩ := hB
  rw [ht] at hP1
  obtain ⟨hP, hD⟩ := va_join (wr := [oc h 0 [.ref h_kinds, .ref h_now, .ref h_fault, .ref h_tape, .int taped, .int reads, .ref h_got, .ref h_failing, .ref h_past, .int undoMany, .ref h_aside, .ref h_best, .ref h_tried, .ref h_kept, .ref h_keptPast, .int keptMany, .int isKept, .ref h_sheets], arf G h_sheets 7 4 shf, oc h_sheets_x 8 [.null]]) (w1 := []) hP hD [] [0, 1, 2] rfl rfl (by decide) (by decide) hk1 hFc hP1 hD1
  clear hPc hDc hFc hP1 hD1 hz1 hk1 hvm
  generalize H1 = H at hP hS ⊢
  have hP : va_P G.1 gCl [oc h 0 [.ref h_kinds, .ref h_now, .ref h_fault, .ref h_tape, .int taped, .int reads, .ref h_got, .ref h_failing, .ref h_past, .int undoMany, .ref h_aside, .ref h_best, .ref h_tried, .ref h_kept, .ref h_keptPast, .int keptMany, .int isKept, .ref h_sheets], arf G h_sheets 7 4 shf, oc h_sheets_x 8 [.null]] H := hP
  have hD : va_D A [oc h 0 [.ref h_kinds, .ref h_now, .ref h_fault, .ref h_tape, .int taped, .int reads, .ref h_got, .ref h_failing, .ref h_past, .int undoMany, .ref h_aside, .ref h_best, .ref h_tried, .ref h_kept, .ref h_keptPast, .int keptMany, .int isKept, .ref h_sheets], arf G h_sheets 7 4 shf, oc h_sheets_x 8 [.null]] := hD
  refine lv_if_ne (tgt := 10) hx hb dX0_item_5 (by decide) (fun c_2 => ?_) (fun c_2 => ?_)
  · replace hw := hw.1 c_2
    refine lv_aload_n hx hb dX0_item_10 rfl (lv_at hl 0 rfl) ?_
    refine va_get (D := G.1) (ci := 0) (v := .ref h_sheets) (C := RX0) (T := TX0) (N := 18) hx hb hts in_X0 hown hK.1 hP 0 rfl rfl 17 (by decide) (hts _ q273) (fun _ h9 => h9) rfl dX0_item_11 ?_
    refine lv_iload_n hx hb dX0_item_14 rfl (lv_at hl 1 rfl) ?_
    obtain ⟨i_3, hw⟩ := hw
    refine z_aaldS hx hb hK.1 hP 1 7 rfl rfl i_3 dX0_item_15 hsh ?_
    refine lv_iload_n hx hb dX0_item_16 rfl (lv_at hl 2 rfl) ?_
    refine lv_iload_n hx hb dX0_item_17 rfl (lv_at hl 3 rfl) ?_
    refine lv_lload hx hb dX0_item_18 (lv_at hl 4 rfl) ?_
    have hPc := hP.sub (ws' := [oc h_sheets_x 8 [.null]]) [2] rfl
    have hDc := hD.sub (ws' := [oc h_sheets_x 8 [.null]]) [2] (by decide) rfl
    have hFc := va_free (wc := [oc h_sheets_x 8 [.null]]) hD hS hA [2] rfl
    refine va_callEv (va_runVT (As := [.int p2, .int p3, .long p4]) (rest := []) ⟨hx, hb, hml, hown, hts⟩ (mt_X8_lay_N_x l G aS hfl h_sheets_x H.size  p2 p3 p4 _ _ hw) (cwV 3 hts (lw_V q686 q687 q688 q64 q689) rfl rfl rfl (by decide +kernel) ⟨Nat.le_of_ble_eq_true rfl, Nat.le_of_ble_eq_true rfl⟩) ⟨fun a U g mk q => by obtain ⟨q0, q1, qP, qK, qD, qS⟩ := q; exact ⟨q0, q1, qP, qK.call, qD, stS.moved (u := U) (U := U.calling g mk a) (Vm.Alike.refl U.vm) rfl qS⟩, va_recv hK.1 hP (ci := 8) (q0 := 2) rfl rfl, fun U hU hW => ⟨rfl, by rw [hU], by rw [hU]; exact hPc, hK.warm hW, hDc.weaken (fun _ _ _ _ => trivial), hX.at hS hU hW⟩⟩ rfl rfl hl.1 rfl (lv_room (Nat.le_of_ble_eq_true rfl)) dX0_item_20 ⟨Nat.le_of_ble_eq_true rfl, Nat.le_of_ble_eq_true rfl⟩) hS (fun q _ h => hFc q h) hFc (fun _ t H1 locs ht hvm hw hB hz1 hk1 hS => ?_) (fun k_5 x_4 t H1 locs ht hvm hw hxo hB hz1 hk1 hS => ?_)
    · obtain ⟨hP1, hD1⟩ := hB
      rw [ht] at hP1
      obtain ⟨hP, hD⟩ := va_join (wr := [oc h 0 [.ref h_kinds, .ref h_now, .ref h_fault, .ref h_tape, .int taped, .int reads, .ref h_got, .ref h_failing, .ref h_past, .int undoMany, .ref h_aside, .ref h_best, .ref h_tried, .ref h_kept, .ref h_keptPast, .int keptMany, .int isKept, .ref h_sheets], arf G h_sheets 7 4 shf]) (w1 := [oc h_sheets_x 8 [.null]]) hP hD [2] [0, 1] rfl rfl (by decide) (by decide) hk1 hFc hP1 hD1
      clear hPc hDc hFc hP1 hD1 hz1 hk1 hvm
      generalize H1 = H at hP hS ⊢
      have hP : va_P G.1 gCl [oc h 0 [.ref h_kinds, .ref h_now, .ref h_fault, .ref h_tape, .int taped, .int reads, .ref h_got, .ref h_failing, .ref h_past, .int undoMany, .ref h_aside, .ref h_best, .ref h_tried, .ref h_kept, .ref h_keptPast, .int keptMany, .int isKept, .ref h_sheets], arf G h_sheets 7 4 shf, oc h_sheets_x 8 [.null]] H := hP
      have hD : va_D A [oc h 0 [.ref h_kinds, .ref h_now, .ref h_fault, .ref h_tape, .int taped, .int reads, .ref h_got, .ref h_failing, .ref h_past, .int undoMany, .ref h_aside, .ref h_best, .ref h_tried, .ref h_kept, .ref h_keptPast, .int keptMany, .int isKept, .ref h_sheets], arf G h_sheets 7 4 shf, oc h_sheets_x 8 [.null]] := hD
      refine lv_goto (tgt := 41) hx hb dX0_item_23 (by decide) ?_
      refine lv_iconst (v := (1 : Int32)) hx hb dX0_item_41 (by decide) ?_
      have hP9 := hP
      have hD9 := hD
      exact w_widen (k := 3) (n := 1010) (by first | exact Nat.le_of_ble_eq_true rfl | omega) (by first | exact Nat.le_of_ble_eq_true rfl | omega) (W.iret (v := (1 : Int32)) hx hb hr (fun t ht hW => ⟨⟨(1 : Int32), (), rfl, hw, by rw [ht]; exact hP9, hD9⟩, hS.F ht⟩) hS.2.2 dX0_item_42)
    · obtain ⟨hP1, hD1⟩ := hB
      rw [ht] at hP1
      obtain ⟨hP, hD⟩ := va_join (wr := [oc h 0 [.ref h_kinds, .ref h_now, .ref h_fault, .ref h_tape, .int taped, .int reads, .ref h_got, .ref h_failing, .ref h_past, .int undoMany, .ref h_aside, .ref h_best, .ref h_tried, .ref h_kept, .ref h_keptPast, .int keptMany, .int isKept, .ref h_sheets], arf G h_sheets 7 4 shf]) (w1 := [oc h_sheets_x 8 [.null]]) hP hD [2] [0, 1] rfl rfl (by decide) (by decide) hk1 hFc hP1 hD1
      clear hPc hDc hFc hP1 hD1 hz1 hk1 hvm
      generalize H1 = H at hP hS hxo ⊢
      have hP : va_P G.1 gCl [oc h 0 [.ref h_kinds, .ref h_now, .ref h_fault, .ref h_tape, .int taped, .int reads, .ref h_got, .ref h_failing, .ref h_past, .int undoMany, .ref h_aside, .ref h_best, .ref h_tried, .ref h_kept, .ref h_keptPast, .int keptMany, .int isKept, .ref h_sheets], arf G h_sheets 7 4 shf, oc h_sheets_x 8 [.null]] H := hP
      have hD : va_D A [oc h 0 [.ref h_kinds, .ref h_now, .ref h_fault, .ref h_tape, .int taped, .int reads, .ref h_got, .ref h_failing, .ref h_past, .int undoMany, .ref h_aside, .ref h_best, .ref h_tried, .ref h_kept, .ref h_keptPast, .int keptMany, .int isKept, .ref h_sheets], arf G h_sheets 7 4 shf, oc h_sheets_x 8 [.null]] := hD
      rcases hw.1 with ek | ek | ek
      · subst ek
        replace hw := hw.2.1 rfl
        obtain ⟨ce, hce, hcv, hcc⟩ := hxo
        refine wx_catch (cell := ce) hce (by rw [hcv]; rfl) [] ⟨10, 23, 26, 354⟩ [⟨10, 23, 31, 356⟩, ⟨10, 23, 36, 358⟩] hhd (fun _ _ z hz => by cases hz) (by decide) (by decide) hown (hts _ q734) (cT := ce.cls) hcc (vm_refl (args := #[]) (hK.n q756 rfl) hcc) ?_
        refine lv_astore (lv' := [(6, .ref x_4), (0, .ref h), (1, .int p1), (2, .int p2), (3, .int p3), (4, .long p4)]) hx hb dX0_item_26 hl (by decide) rfl (fun ls hl => ?_)
        refine lv_bipush (v := (-11 : Int32)) hx hb dX0_item_28 (by decide) ?_
        have hP9 := hP
        have hD9 := hD
        exact w_widen (k := 3) (n := 1010) (by first | exact Nat.le_of_ble_eq_true rfl | omega) (by first | exact Nat.le_of_ble_eq_true rfl | omega) (W.iret (v := (-11 : Int32)) hx hb hr (fun t ht hW => ⟨⟨(-11 : Int32), (), rfl, hw, by rw [ht]; exact hP9, hD9⟩, hS.F ht⟩) hS.2.2 dX0_item_30)
      · subst ek
        replace hw := hw.2.2.1 rfl
        obtain ⟨ce, hce, hcv, hcc⟩ := hxo
        refine wx_catch (cell := ce) hce (by rw [hcv]; rfl) [⟨10, 23, 26, 354⟩] ⟨10, 23, 31, 356⟩ [⟨10, 23, 36, 358⟩] hhd (fun pl hpl z hz => (List.forall_mem_cons.mpr ⟨x_pass (z := ⟨10, 23, 26, 354⟩) (by decide) (by decide) hown (hts _ q734) (hK.2.2 ("java/lang/ClassCastException", "java/lang/NullPointerException") (by decide +kernel)) hcc pl hpl, fun _ h9 => absurd h9 List.not_mem_nil⟩) z hz) (by decide) (by decide) hown (hts _ q759) (cT := ce.cls) hcc (vm_refl (args := #[]) (hK.n q771 rfl) hcc) ?_
        refine lv_astore (lv' := [(6, .ref x_4), (0, .ref h), (1, .int p1), (2, .int p2), (3, .int p3), (4, .long p4)]) hx hb dX0_item_31 hl (by decide) rfl (fun ls hl => ?_)
        refine lv_bipush (v := (-12 : Int32)) hx hb dX0_item_33 (by decide) ?_
        have hP9 := hP
        have hD9 := hD
        exact w_widen (k := 3) (n := 1010) (by first | exact Nat.le_of_ble_eq_true rfl | omega) (by first | exact Nat.le_of_ble_eq_true rfl | omega) (W.iret (v := (-12 : Int32)) hx hb hr (fun t ht hW => ⟨⟨(-12 : Int32), (), rfl, hw, by rw [ht]; exact hP9, hD9⟩, hS.F ht⟩) hS.2.2 dX0_item_35)
      · subst ek
        replace hw := hw.2.2.2 rfl
        obtain ⟨ce, hce, hcv, hcc⟩ := hxo
        refine wx_catch (cell := ce) hce (by rw [hcv]; rfl) [⟨10, 23, 26, 354⟩, ⟨10, 23, 31, 356⟩] ⟨10, 23, 36, 358⟩ [] hhd (fun pl hpl z hz => (List.forall_mem_cons.mpr ⟨x_pass (z := ⟨10, 23, 26, 354⟩) (by decide) (by decide) hown (hts _ q734) (hK.2.2 ("java/lang/ArrayIndexOutOfBoundsException", "java/lang/NullPointerException") (by decide +kernel)) hcc pl hpl, (List.forall_mem_cons.mpr ⟨x_pass (z := ⟨10, 23, 31, 356⟩) (by decide) (by decide) hown (hts _ q759) (hK.2.2 ("java/lang/ArrayIndexOutOfBoundsException", "java/lang/ClassCastException") (by decide +kernel)) hcc pl hpl, fun _ h9 => absurd h9 List.not_mem_nil⟩)⟩) z hz) (by decide) (by decide) hown (hts _ q773) (cT := ce.cls) hcc (vm_refl (args := #[]) (hK.n q788 rfl) hcc) ?_
        refine lv_astore (lv' := [(6, .ref x_4), (0, .ref h), (1, .int p1), (2, .int p2), (3, .int p3), (4, .long p4)]) hx hb dX0_item_36 hl (by decide) rfl (fun ls hl => ?_)
        refine lv_bipush (v := (-13 : Int32)) hx hb dX0_item_38 (by decide) ?_
        have hP9 := hP
        have hD9 := hD
        exact w_widen (k := 3) (n := 1010) (by first | exact Nat.le_of_ble_eq_true rfl | omega) (by first | exact Nat.le_of_ble_eq_true rfl | omega) (W.iret (v := (-13 : Int32)) hx hb hr (fun t ht hW => ⟨⟨(-13 : Int32), (), rfl, hw, by rw [ht]; exact hP9, hD9⟩, hS.F ht⟩) hS.2.2 dX0_item_40)
  · replace hw := hw.2 c_2
    refine lv_iconst (v := (-1 : Int32)) hx hb dX0_item_8 (by decide) ?_
    have hP9 := hP
    have hD9 := hD
    exact w_widen (k := 3) (n := 1010) (by first | exact Nat.le_of_ble_eq_true rfl | omega) (by first | exact Nat.le_of_ble_eq_true rfl | omega) (W.iret (v := (-1 : Int32)) hx hb hr (fun t ht hW => ⟨⟨(-1 : Int32), (), rfl, hw, by rw [ht]; exact hP9, hD9⟩, hS.F ht⟩) hS.2.2 dX0_item_9)
