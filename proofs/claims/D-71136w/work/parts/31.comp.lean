set_option maxRecDepth 100000
/-! BattleBench.isIn(JJJ)Z -/
def wp_X0_isIn (p0 : Int64) (p2 : Int64) (p4 : Int64) (Q : Int32 → Prop) : Prop :=
  ((((lg_cmp p0 p2) < 0) → Q (0 : Int32)) ∧ (¬ ((lg_cmp p0 p2) < 0) → (((0 < (lg_cmp p0 p4)) → Q (0 : Int32)) ∧ (¬ (0 < (lg_cmp p0 p4)) → Q (1 : Int32)))))
set_option maxHeartbeats 4000000 in
theorem mt_X0_isIn (l : Launch) (G : GT)  (sz : Nat) (p0 : Int64) (p2 : Int64) (p4 : Int64) (Q : Int32 → Prop) (hw : wp_X0_isIn p0 p2 p4 Q) : Met l yX0_isIn (ws_ yX0_isIn cX0_isIn 6 (some .boolean)) ({ frames := 0, cells := 0, slots := 0, locals := 0 } : Room) (va_Pc [.long p0, .long p2, .long p4] (fun U => U.heap.size = sz ∧ va_P G.1 gCl [] U.heap ∧ gK G U ∧ va_D (fun _ => True) [])) ((fun A => (va_Qi (fun (r : Int32) (u : Unit) => Q r ) (fun u t => va_P G.1 gCl [] t.heap ∧ va_D A []) A)) (va_A [] sz)) 0 0 (va_A [] sz) := by
  refine Met.ofW (cc := cX0_isIn) (maxL := 6) (ret := (some .boolean)) (by decide) rfl ?_
  intro p e s m args below meth c s₁ B hml hv
  obtain ⟨rfl, hsz, hP, hK, hD0⟩ := hv
  have hx := B.exec
  have hb := B.bytes
  have hr := B.returns
  have hts := atoms_spec (ws := (ws_ yX0_isIn cX0_isIn 6 (some .boolean))) B.pre
  have hts : ∀ w ∈ lw_all, w.before _ s = true := fun w h => hts w (List.mem_cons_of_mem _ h)
  have hown : s.vm.findClass RX0 = some m.cls := findClass_of_methodNamed B.named
  have hlocks := B.notSynchronized
  subst hsz
  have hD := hD0.self (sz := s.heap.size)
  generalize hAe : va_A [] s.heap.size = A at hD ⊢
  have hA : ∀ q : Nat, s.heap.size ≤ q → A q := fun q h => by rw [← hAe]; exact Or.inr h
  have hS : va_S A s.heap s.heap [] := va_S.rf
  have C : Cx p s m meth c cX0_isIn 6 (some .boolean) RX0 ([.long p0, .long p2, .long p4] : List Value).toArray G A := ⟨hx, hb, hr, hlocks, hml, hown, hts, hK, hA⟩
  have hl := lv_entry ([.long p0, .long p2, .long p4]) (n := 6) (Nat.le_of_ble_eq_true rfl)
  rw [lg_entry_eq]
  generalize (lg_sl ([.long p0, .long p2, .long p4]) ++ List.replicate (6 - (lg_sl ([.long p0, .long p2, .long p4])).length) Slot.unset).toArray = ls at hl ⊢
  have hl : lv_has ls 6 [(0, .long p0), (2, .long p2), (4, .long p4)] := hl
  unfold wp_X0_isIn at hw
  refine lv_lload_n hx hb dX0_isIn_0 rfl (lv_at hl 0 rfl) ?_
  refine lv_lload_n hx hb dX0_isIn_1 rfl (lv_at hl 1 rfl) ?_
  refine W.lcmp hx hb dX0_isIn_2 ?_
  refine lv_if_lt (tgt := 17) hx hb dX0_isIn_3 (by decide) (fun c_1 => ?_) (fun c_1 => ?_)
  · replace hw := hw.1 c_1
    refine lv_iconst (v := (0 : Int32)) hx hb dX0_isIn_17 (by decide) ?_
    have hP9 := hP
    have hD9 := hD
    exact W.zret (v := (0 : Int32)) hx hb hr rfl (fun t ht hW => ⟨⟨(0 : Int32), (), rfl, hw, by rw [ht]; exact hP9, hD9⟩, hS.F ht⟩) hS.2.2 dX0_isIn_18
  · replace hw := hw.2 c_1
    refine lv_lload_n hx hb dX0_isIn_6 rfl (lv_at hl 0 rfl) ?_
    refine lv_lload hx hb dX0_isIn_7 (lv_at hl 2 rfl) ?_
    refine W.lcmp hx hb dX0_isIn_9 ?_
    refine lv_if_gt (tgt := 17) hx hb dX0_isIn_10 (by decide) (fun c_2 => ?_) (fun c_2 => ?_)
    · replace hw := hw.1 c_2
      refine lv_iconst (v := (0 : Int32)) hx hb dX0_isIn_17 (by decide) ?_
      have hP9 := hP
      have hD9 := hD
      exact W.zret (v := (0 : Int32)) hx hb hr rfl (fun t ht hW => ⟨⟨(0 : Int32), (), rfl, hw, by rw [ht]; exact hP9, hD9⟩, hS.F ht⟩) hS.2.2 dX0_isIn_18
    · replace hw := hw.2 c_2
      refine lv_iconst (v := (1 : Int32)) hx hb dX0_isIn_13 (by decide) ?_
      refine lv_goto (tgt := 18) hx hb dX0_isIn_14 (by decide) ?_
      have hP9 := hP
      have hD9 := hD
      exact W.zret (v := (1 : Int32)) hx hb hr rfl (fun t ht hW => ⟨⟨(1 : Int32), (), rfl, hw, by rw [ht]; exact hP9, hD9⟩, hS.F ht⟩) hS.2.2 dX0_isIn_18
/-! BattleBench.man(II)I -/
def wp_X0_man_77 (p1 : Int32) (p2 : Int32) (Q : Int32 → (Int32 × BT) → Prop)  : Nat → Int32 → BT → Int32 → Prop
  | 0, _, _, _ => False
  | n + 1, undoMany, now, x3 =>
    ((((3 : Int32) ≤ x3) → wp_X6_add now p1 p2 (fun u_2 => Q ((mn u_2) - (1 : Int32)) ((0 : Int32), u_2))) ∧ (¬ ((3 : Int32) ≤ x3) → (vp_in (((3 : Int32) * (mn now)) + x3) 18 ∧ ∀ f_4 : Nat → Int32, f_4 = upd (pl now) ((((3 : Int32) * (mn now)) + x3)).toNatClampNeg (mn now) → wp_X0_man_77 p1 p2 Q  n undoMany ((kd now), f_4, (lf now), (se now), (mn now), (ma now), (yr now), (dw now)) (x3 + (1 : Int32)))))
set_option maxHeartbeats 4000000 in
theorem wk_X0_man_77 {p : Program} {l : Launch} {e : Env} {s : State} {m : MethodId} {below : List Frame} {meth : Method} {c : Code} {args : Array Value} {G : GT} {A : Nat → Prop} (h h_kinds h_now h_fault h_tape h_got h_failing h_past h_aside h_best h_tried h_kept h_keptPast h_sheets h_now_0 h_now_1 h_now_2 h_now_3 : Nat) (taped : Int32) (reads : Int32) (keptMany : Int32) (isKept : Int32) (p1 : Int32) (p2 : Int32) (Q : Int32 → (Int32 × BT) → Prop)  (C : Cx p s m meth c cX0_man 4 (some .int) RX0 args G A)  :
    ∀ (n : Nat), ∀  (undoMany : Int32) (now : BT) (x3 : Int32) (H : Heap) (locs : List Loc), va_P G.1 gCl [oc h 0 [.ref h_kinds, .ref h_now, .ref h_fault, .ref h_tape, .int taped, .int reads, .ref h_got, .ref h_failing, .ref h_past, .int undoMany, .ref h_aside, .ref h_best, .ref h_tried, .ref h_kept, .ref h_keptPast, .int keptMany, .int isKept, .ref h_sheets], oc h_now 6 [.ref h_now_0, .ref h_now_1, .ref h_now_2, .ref h_now_3, .int (mn now), .int (ma now), .int (yr now), .int (dw now)], ai G h_now_0 6 (kd now), ai G h_now_1 18 (pl now), ai G h_now_2 6 (lf now), ai G h_now_3 6 (se now)] H → va_D A [oc h 0 [.ref h_kinds, .ref h_now, .ref h_fault, .ref h_tape, .int taped, .int reads, .ref h_got, .ref h_failing, .ref h_past, .int undoMany, .ref h_aside, .ref h_best, .ref h_tried, .ref h_kept, .ref h_keptPast, .int keptMany, .int isKept, .ref h_sheets], oc h_now 6 [.ref h_now_0, .ref h_now_1, .ref h_now_2, .ref h_now_3, .int (mn now), .int (ma now), .int (yr now), .int (dw now)], ai G h_now_0 6 (kd now), ai G h_now_1 18 (pl now), ai G h_now_2 6 (lf now), ai G h_now_3 6 (se now)] → va_S A s.heap H locs → ∀ (ls : Array Slot), lv_has ls 4 [(0, .ref h), (1, .int p1), (2, .int p2), (3, .int x3)] → wp_X0_man_77 p1 p2 Q  n undoMany now x3 → W p l e ({ frames := 2, cells := 0, slots := 0, locals := 45 } : Room) s m args below meth c H locs 0 0 (MQ below (va_Qi (fun (r : Int32) (u : Int32 × BT) => Q r u) (fun u t => va_P G.1 gCl [oc h 0 [.ref h_kinds, .ref h_now, .ref h_fault, .ref h_tape, .int taped, .int reads, .ref h_got, .ref h_failing, .ref h_past, .int u.1, .ref h_aside, .ref h_best, .ref h_tried, .ref h_kept, .ref h_keptPast, .int keptMany, .int isKept, .ref h_sheets], oc h_now 6 [.ref h_now_0, .ref h_now_1, .ref h_now_2, .ref h_now_3, .int (mn u.2), .int (ma u.2), .int (yr u.2), .int (dw u.2)], ai G h_now_0 6 (kd u.2), ai G h_now_1 18 (pl u.2), ai G h_now_2 6 (lf u.2), ai G h_now_3 6 (se u.2)] t.heap ∧ va_D A [oc h 0 [.ref h_kinds, .ref h_now, .ref h_fault, .ref h_tape, .int taped, .int reads, .ref h_got, .ref h_failing, .ref h_past, .int u.1, .ref h_aside, .ref h_best, .ref h_tried, .ref h_kept, .ref h_keptPast, .int keptMany, .int isKept, .ref h_sheets], oc h_now 6 [.ref h_now_0, .ref h_now_1, .ref h_now_2, .ref h_now_3, .int (mn u.2), .int (ma u.2), .int (yr u.2), .int (dw u.2)], ai G h_now_0 6 (kd u.2), ai G h_now_1 18 (pl u.2), ai G h_now_2 6 (lf u.2), ai G h_now_3 6 (se u.2)]) A) args s 0 0 A) (F0 m 77 ls []) := by
  have C9 := C
  obtain ⟨hx, hb, hr, hlocks, hml, hown, hts, hK, hA⟩ := C9
  intro n
  induction n with
  | zero => intro undoMany now x3 H locs hP hD hS ls hl hw; exact False.elim hw
  | succ n ih =>
    intro undoMany now x3 H locs hP hD hS ls hl hw
    unfold wp_X0_man_77 at hw
    refine lv_iload_n hx hb dX0_man_77 rfl (lv_at hl 3 rfl) ?_
    refine lv_iconst (v := (3 : Int32)) hx hb dX0_man_78 (by decide) ?_
    refine lv_icmp_ge (tgt := 114) hx hb dX0_man_79 (by decide) (fun c_1 => ?_) (fun c_1 => ?_)
    · replace hw := hw.1 c_1
      refine lv_aload_n hx hb dX0_man_114 rfl (lv_at hl 0 rfl) ?_
      refine va_get (D := G.1) (ci := 0) (v := .ref h_now) (C := RX0) (T := TX0) (N := 18) hx hb hts in_X0 hown hK.1 hP 0 rfl rfl 1 (by decide) (hts _ q257) (fun _ h9 => h9) rfl dX0_man_115 ?_
      refine lv_iload_n hx hb dX0_man_118 rfl (lv_at hl 1 rfl) ?_
      refine lv_iload_n hx hb dX0_man_119 rfl (lv_at hl 2 rfl) ?_
      have hPc := hP.sub (ws' := [oc h_now 6 [.ref h_now_0, .ref h_now_1, .ref h_now_2, .ref h_now_3, .int (mn now), .int (ma now), .int (yr now), .int (dw now)], ai G h_now_0 6 (kd now), ai G h_now_1 18 (pl now), ai G h_now_2 6 (lf now), ai G h_now_3 6 (se now)]) [1, 2, 3, 4, 5] rfl
      have hDc := hD.sub (ws' := [oc h_now 6 [.ref h_now_0, .ref h_now_1, .ref h_now_2, .ref h_now_3, .int (mn now), .int (ma now), .int (yr now), .int (dw now)], ai G h_now_0 6 (kd now), ai G h_now_1 18 (pl now), ai G h_now_2 6 (lf now), ai G h_now_3 6 (se now)]) [1, 2, 3, 4, 5] (by decide) rfl
      have hFc := va_free (wc := [oc h_now 6 [.ref h_now_0, .ref h_now_1, .ref h_now_2, .ref h_now_3, .int (mn now), .int (ma now), .int (yr now), .int (dw now)], ai G h_now_0 6 (kd now), ai G h_now_1 18 (pl now), ai G h_now_2 6 (lf now), ai G h_now_3 6 (se now)]) hD hS hA [1, 2, 3, 4, 5] rfl
      refine va_callv (va_runV (As := [.int p1, .int p2]) (rest := []) ⟨hx, hb, hml, hown, hts⟩ (mt_X6_add l G h_now h_now_0 h_now_1 h_now_2 h_now_3 H.size now p1 p2 _ hw) (cwV 2 hts (lw_V q328 q329 q330 q60 q331) rfl rfl rfl (by decide +kernel) ⟨Nat.le_of_ble_eq_true rfl, Nat.le_of_ble_eq_true rfl⟩) ⟨fun a U g mk q => by obtain ⟨q0, q1, qP, qK, qD⟩ := q; exact ⟨q0, q1, qP, qK.call, qD⟩, va_recv hK.1 hP (ci := 6) (q0 := 1) rfl rfl, fun U hU hW => ⟨rfl, by rw [hU], by rw [hU]; exact hPc, hK.warm hW, hDc.weaken (fun _ _ _ _ => trivial)⟩⟩ rfl rfl hl.1 rfl (lv_room (Nat.le_of_ble_eq_true rfl)) dX0_man_120 ⟨Nat.le_of_ble_eq_true rfl, Nat.le_of_ble_eq_true rfl⟩) hS (fun q _ h => hFc q h) hFc (fun u_2 t H1 locs ht hvm hw hB hz1 hk1 hS => ?_)
      obtain ⟨hP1, hD1⟩ := hB
      rw [ht] at hP1
      obtain ⟨hP, hD⟩ := va_join (wr := [oc h 0 [.ref h_kinds, .ref h_now, .ref h_fault, .ref h_tape, .int taped, .int reads, .ref h_got, .ref h_failing, .ref h_past, .int undoMany, .ref h_aside, .ref h_best, .ref h_tried, .ref h_kept, .ref h_keptPast, .int keptMany, .int isKept, .ref h_sheets]]) (w1 := [oc h_now 6 [.ref h_now_0, .ref h_now_1, .ref h_now_2, .ref h_now_3, .int (mn u_2), .int (ma u_2), .int (yr u_2), .int (dw u_2)], ai G h_now_0 6 (kd u_2), ai G h_now_1 18 (pl u_2), ai G h_now_2 6 (lf u_2), ai G h_now_3 6 (se u_2)]) hP hD [1, 2, 3, 4, 5] [0] rfl rfl (by decide) (by decide) hk1 hFc hP1 hD1
      clear hPc hDc hFc hP1 hD1 hz1 hk1 hvm
      generalize H1 = H at hP hS ⊢
      have hP : va_P G.1 gCl [oc h 0 [.ref h_kinds, .ref h_now, .ref h_fault, .ref h_tape, .int taped, .int reads, .ref h_got, .ref h_failing, .ref h_past, .int undoMany, .ref h_aside, .ref h_best, .ref h_tried, .ref h_kept, .ref h_keptPast, .int keptMany, .int isKept, .ref h_sheets], oc h_now 6 [.ref h_now_0, .ref h_now_1, .ref h_now_2, .ref h_now_3, .int (mn u_2), .int (ma u_2), .int (yr u_2), .int (dw u_2)], ai G h_now_0 6 (kd u_2), ai G h_now_1 18 (pl u_2), ai G h_now_2 6 (lf u_2), ai G h_now_3 6 (se u_2)] H := hP
      have hD : va_D A [oc h 0 [.ref h_kinds, .ref h_now, .ref h_fault, .ref h_tape, .int taped, .int reads, .ref h_got, .ref h_failing, .ref h_past, .int undoMany, .ref h_aside, .ref h_best, .ref h_tried, .ref h_kept, .ref h_keptPast, .int keptMany, .int isKept, .ref h_sheets], oc h_now 6 [.ref h_now_0, .ref h_now_1, .ref h_now_2, .ref h_now_3, .int (mn u_2), .int (ma u_2), .int (yr u_2), .int (dw u_2)], ai G h_now_0 6 (kd u_2), ai G h_now_1 18 (pl u_2), ai G h_now_2 6 (lf u_2), ai G h_now_3 6 (se u_2)] := hD
      refine lv_aload_n hx hb dX0_man_123 rfl (lv_at hl 0 rfl) ?_
      refine lv_iconst (v := (0 : Int32)) hx hb dX0_man_124 (by decide) ?_
      refine va_put (D := G.1) (ci := 0) (v := .int (0 : Int32)) (ty := .int) (C := RX0) (T := TX0) (N := 18) hx hb hts in_X0 tyX0 tyX0_ok nmX0 hown hK.1 hP hD hS 0 rfl rfl 9 (by decide) (hts _ q265) (fun _ h9 => h9) rfl (by decide +kernel) rfl rfl (Nat.le_of_ble_eq_true rfl) dX0_man_125 (fun H locs hP hD hS => ?_)
      have hP : va_P G.1 gCl [oc h 0 [.ref h_kinds, .ref h_now, .ref h_fault, .ref h_tape, .int taped, .int reads, .ref h_got, .ref h_failing, .ref h_past, .int (0 : Int32), .ref h_aside, .ref h_best, .ref h_tried, .ref h_kept, .ref h_keptPast, .int keptMany, .int isKept, .ref h_sheets], oc h_now 6 [.ref h_now_0, .ref h_now_1, .ref h_now_2, .ref h_now_3, .int (mn u_2), .int (ma u_2), .int (yr u_2), .int (dw u_2)], ai G h_now_0 6 (kd u_2), ai G h_now_1 18 (pl u_2), ai G h_now_2 6 (lf u_2), ai G h_now_3 6 (se u_2)] H := hP
      have hD : va_D A [oc h 0 [.ref h_kinds, .ref h_now, .ref h_fault, .ref h_tape, .int taped, .int reads, .ref h_got, .ref h_failing, .ref h_past, .int (0 : Int32), .ref h_aside, .ref h_best, .ref h_tried, .ref h_kept, .ref h_keptPast, .int keptMany, .int isKept, .ref h_sheets], oc h_now 6 [.ref h_now_0, .ref h_now_1, .ref h_now_2, .ref h_now_3, .int (mn u_2), .int (ma u_2), .int (yr u_2), .int (dw u_2)], ai G h_now_0 6 (kd u_2), ai G h_now_1 18 (pl u_2), ai G h_now_2 6 (lf u_2), ai G h_now_3 6 (se u_2)] := hD
      refine lv_aload_n hx hb dX0_man_128 rfl (lv_at hl 0 rfl) ?_
      refine va_get (D := G.1) (ci := 0) (v := .ref h_now) (C := RX0) (T := TX0) (N := 18) hx hb hts in_X0 hown hK.1 hP 0 rfl rfl 1 (by decide) (hts _ q257) (fun _ h9 => h9) rfl dX0_man_129 ?_
      refine va_getN (D := G.1) (ci := 6) (v := .int (mn u_2)) (C := RX6) (T := TX6) (N := 8) hx hb hts in_X6 hown hK.1 hP 1 rfl rfl 4 (by decide) (hK.n q136 rfl) (fun _ h9 => h9) rfl dX0_man_132 ?_
      refine lv_iconst (v := (1 : Int32)) hx hb dX0_man_135 (by decide) ?_
      refine lv_isub hx hb dX0_man_136 ?_
      have hP9 := hP
      have hD9 := hD
      exact W.iret (v := ((mn u_2) - (1 : Int32))) hx hb hr (fun t ht hW => ⟨⟨((mn u_2) - (1 : Int32)), ((0 : Int32), u_2), rfl, hw, by rw [ht]; exact hP9, hD9⟩, hS.F ht⟩) hS.2.2 dX0_man_137
    · replace hw := hw.2 c_1
      refine lv_aload_n hx hb dX0_man_82 rfl (lv_at hl 0 rfl) ?_
      refine va_get (D := G.1) (ci := 0) (v := .ref h_now) (C := RX0) (T := TX0) (N := 18) hx hb hts in_X0 hown hK.1 hP 0 rfl rfl 1 (by decide) (hts _ q257) (fun _ h9 => h9) rfl dX0_man_83 ?_
      refine va_getN (D := G.1) (ci := 6) (v := .ref h_now_1) (C := RX6) (T := TX6) (N := 8) hx hb hts in_X6 hown hK.1 hP 1 rfl rfl 1 (by decide) (hK.n q130 rfl) (fun _ h9 => h9) rfl dX0_man_86 ?_
      refine lv_iconst (v := (3 : Int32)) hx hb dX0_man_89 (by decide) ?_
      refine lv_aload_n hx hb dX0_man_90 rfl (lv_at hl 0 rfl) ?_
      refine va_get (D := G.1) (ci := 0) (v := .ref h_now) (C := RX0) (T := TX0) (N := 18) hx hb hts in_X0 hown hK.1 hP 0 rfl rfl 1 (by decide) (hts _ q257) (fun _ h9 => h9) rfl dX0_man_91 ?_
      refine va_getN (D := G.1) (ci := 6) (v := .int (mn now)) (C := RX6) (T := TX6) (N := 8) hx hb hts in_X6 hown hK.1 hP 1 rfl rfl 4 (by decide) (hK.n q136 rfl) (fun _ h9 => h9) rfl dX0_man_94 ?_
      refine lv_imul hx hb dX0_man_97 ?_
      refine lv_iload_n hx hb dX0_man_98 rfl (lv_at hl 3 rfl) ?_
      refine lv_iadd hx hb dX0_man_99 ?_
      refine lv_aload_n hx hb dX0_man_100 rfl (lv_at hl 0 rfl) ?_
      refine va_get (D := G.1) (ci := 0) (v := .ref h_now) (C := RX0) (T := TX0) (N := 18) hx hb hts in_X0 hown hK.1 hP 0 rfl rfl 1 (by decide) (hts _ q257) (fun _ h9 => h9) rfl dX0_man_101 ?_
      refine va_getN (D := G.1) (ci := 6) (v := .int (mn now)) (C := RX6) (T := TX6) (N := 8) hx hb hts in_X6 hown hK.1 hP 1 rfl rfl 4 (by decide) (hK.n q136 rfl) (fun _ h9 => h9) rfl dX0_man_104 ?_
      obtain ⟨i_3, hw⟩ := hw
      refine z_iast hx hb hK.1 hP hD hS 3 0 rfl rfl i_3 dX0_man_107 (k := ((((3 : Int32) * (mn now)) + x3)).toNatClampNeg) rfl (fun f_4 ef_4 H locs hP hD hS => ?_)
      replace hw := hw f_4 ef_4
      have hP : va_P G.1 gCl [oc h 0 [.ref h_kinds, .ref h_now, .ref h_fault, .ref h_tape, .int taped, .int reads, .ref h_got, .ref h_failing, .ref h_past, .int undoMany, .ref h_aside, .ref h_best, .ref h_tried, .ref h_kept, .ref h_keptPast, .int keptMany, .int isKept, .ref h_sheets], oc h_now 6 [.ref h_now_0, .ref h_now_1, .ref h_now_2, .ref h_now_3, .int (mn now), .int (ma now), .int (yr now), .int (dw now)], ai G h_now_0 6 (kd now), ai G h_now_1 18 f_4, ai G h_now_2 6 (lf now), ai G h_now_3 6 (se now)] H := hP
      have hD : va_D A [oc h 0 [.ref h_kinds, .ref h_now, .ref h_fault, .ref h_tape, .int taped, .int reads, .ref h_got, .ref h_failing, .ref h_past, .int undoMany, .ref h_aside, .ref h_best, .ref h_tried, .ref h_kept, .ref h_keptPast, .int keptMany, .int isKept, .ref h_sheets], oc h_now 6 [.ref h_now_0, .ref h_now_1, .ref h_now_2, .ref h_now_3, .int (mn now), .int (ma now), .int (yr now), .int (dw now)], ai G h_now_0 6 (kd now), ai G h_now_1 18 f_4, ai G h_now_2 6 (lf now), ai G h_now_3 6 (se now)] := hD
      refine lv_iinc (v := (x3 + (1 : Int32))) (lv' := [(3, .int (x3 + (1 : Int32))), (0, .ref h), (1, .int p1), (2, .int p2)]) hx hb dX0_man_108 hl (k := 3) rfl rfl (by decide) rfl (fun ls hl => ?_)
      refine lv_goto (tgt := 77) hx hb dX0_man_111 (by decide) ?_
      exact ih undoMany ((kd now), f_4, (lf now), (se now), (mn now), (ma now), (yr now), (dw now)) (x3 + (1 : Int32)) H locs hP hD hS ls (lv_sub hl [1, 2, 3, 0] rfl) hw
def wp_X0_man_43 (p1 : Int32) (p2 : Int32) (Q : Int32 → (Int32 × BT) → Prop)  : Nat → Int32 → BT → Int32 → Prop
  | 0, _, _, _ => False
  | n + 1, undoMany, now, x3 =>
    ((((3 : Int32) ≤ x3) → (∃ j_ : Nat, wp_X0_man_77 p1 p2 Q  j_ undoMany now (0 : Int32))) ∧ (¬ ((3 : Int32) ≤ x3) → wp_X6_manAt now x3 (mn now) (fun r_2 => (((r_2 < 0) → wp_X0_man_43 p1 p2 Q  n undoMany now (x3 + (1 : Int32))) ∧ (¬ (r_2 < 0) → Q (-2 : Int32) (undoMany, now))))))
set_option maxHeartbeats 4000000 in
theorem wk_X0_man_43 {p : Program} {l : Launch} {e : Env} {s : State} {m : MethodId} {below : List Frame} {meth : Method} {c : Code} {args : Array Value} {G : GT} {A : Nat → Prop} (h h_kinds h_now h_fault h_tape h_got h_failing h_past h_aside h_best h_tried h_kept h_keptPast h_sheets h_now_0 h_now_1 h_now_2 h_now_3 : Nat) (taped : Int32) (reads : Int32) (keptMany : Int32) (isKept : Int32) (p1 : Int32) (p2 : Int32) (Q : Int32 → (Int32 × BT) → Prop)  (C : Cx p s m meth c cX0_man 4 (some .int) RX0 args G A)  :
    ∀ (n : Nat), ∀  (undoMany : Int32) (now : BT) (x3 : Int32) (H : Heap) (locs : List Loc), va_P G.1 gCl [oc h 0 [.ref h_kinds, .ref h_now, .ref h_fault, .ref h_tape, .int taped, .int reads, .ref h_got, .ref h_failing, .ref h_past, .int undoMany, .ref h_aside, .ref h_best, .ref h_tried, .ref h_kept, .ref h_keptPast, .int keptMany, .int isKept, .ref h_sheets], oc h_now 6 [.ref h_now_0, .ref h_now_1, .ref h_now_2, .ref h_now_3, .int (mn now), .int (ma now), .int (yr now), .int (dw now)], ai G h_now_0 6 (kd now), ai G h_now_1 18 (pl now), ai G h_now_2 6 (lf now), ai G h_now_3 6 (se now)] H → va_D A [oc h 0 [.ref h_kinds, .ref h_now, .ref h_fault, .ref h_tape, .int taped, .int reads, .ref h_got, .ref h_failing, .ref h_past, .int undoMany, .ref h_aside, .ref h_best, .ref h_tried, .ref h_kept, .ref h_keptPast, .int keptMany, .int isKept, .ref h_sheets], oc h_now 6 [.ref h_now_0, .ref h_now_1, .ref h_now_2, .ref h_now_3, .int (mn now), .int (ma now), .int (yr now), .int (dw now)], ai G h_now_0 6 (kd now), ai G h_now_1 18 (pl now), ai G h_now_2 6 (lf now), ai G h_now_3 6 (se now)] → va_S A s.heap H locs → ∀ (ls : Array Slot), lv_has ls 4 [(0, .ref h), (1, .int p1), (2, .int p2), (3, .int x3)] → wp_X0_man_43 p1 p2 Q  n undoMany now x3 → W p l e ({ frames := 2, cells := 0, slots := 0, locals := 45 } : Room) s m args below meth c H locs 0 0 (MQ below (va_Qi (fun (r : Int32) (u : Int32 × BT) => Q r u) (fun u t => va_P G.1 gCl [oc h 0 [.ref h_kinds, .ref h_now, .ref h_fault, .ref h_tape, .int taped, .int reads, .ref h_got, .ref h_failing, .ref h_past, .int u.1, .ref h_aside, .ref h_best, .ref h_tried, .ref h_kept, .ref h_keptPast, .int keptMany, .int isKept, .ref h_sheets], oc h_now 6 [.ref h_now_0, .ref h_now_1, .ref h_now_2, .ref h_now_3, .int (mn u.2), .int (ma u.2), .int (yr u.2), .int (dw u.2)], ai G h_now_0 6 (kd u.2), ai G h_now_1 18 (pl u.2), ai G h_now_2 6 (lf u.2), ai G h_now_3 6 (se u.2)] t.heap ∧ va_D A [oc h 0 [.ref h_kinds, .ref h_now, .ref h_fault, .ref h_tape, .int taped, .int reads, .ref h_got, .ref h_failing, .ref h_past, .int u.1, .ref h_aside, .ref h_best, .ref h_tried, .ref h_kept, .ref h_keptPast, .int keptMany, .int isKept, .ref h_sheets], oc h_now 6 [.ref h_now_0, .ref h_now_1, .ref h_now_2, .ref h_now_3, .int (mn u.2), .int (ma u.2), .int (yr u.2), .int (dw u.2)], ai G h_now_0 6 (kd u.2), ai G h_now_1 18 (pl u.2), ai G h_now_2 6 (lf u.2), ai G h_now_3 6 (se u.2)]) A) args s 0 0 A) (F0 m 43 ls []) := by
  have C9 := C
  obtain ⟨hx, hb, hr, hlocks, hml, hown, hts, hK, hA⟩ := C9
  intro n
  induction n with
  | zero => intro undoMany now x3 H locs hP hD hS ls hl hw; exact False.elim hw
  | succ n ih =>
    intro undoMany now x3 H locs hP hD hS ls hl hw
    unfold wp_X0_man_43 at hw
    refine lv_iload_n hx hb dX0_man_43 rfl (lv_at hl 3 rfl) ?_
    refine lv_iconst (v := (3 : Int32)) hx hb dX0_man_44 (by decide) ?_
    refine lv_icmp_ge (tgt := 75) hx hb dX0_man_45 (by decide) (fun c_1 => ?_) (fun c_1 => ?_)
    · replace hw := hw.1 c_1
      refine lv_iconst (v := (0 : Int32)) hx hb dX0_man_75 (by decide) ?_
      refine lv_istore_n (lv' := [(3, .int (0 : Int32)), (0, .ref h), (1, .int p1), (2, .int p2)]) hx hb dX0_man_76 rfl hl (by decide) rfl (fun ls hl => ?_)
      obtain ⟨j_, hw⟩ := hw
      exact wk_X0_man_77 h h_kinds h_now h_fault h_tape h_got h_failing h_past h_aside h_best h_tried h_kept h_keptPast h_sheets h_now_0 h_now_1 h_now_2 h_now_3 taped reads keptMany isKept p1 p2  Q  C  j_ undoMany now (0 : Int32) H locs hP hD hS ls (lv_sub hl [1, 2, 3, 0] rfl) hw
    · replace hw := hw.2 c_1
      refine lv_aload_n hx hb dX0_man_48 rfl (lv_at hl 0 rfl) ?_
      refine va_get (D := G.1) (ci := 0) (v := .ref h_now) (C := RX0) (T := TX0) (N := 18) hx hb hts in_X0 hown hK.1 hP 0 rfl rfl 1 (by decide) (hts _ q257) (fun _ h9 => h9) rfl dX0_man_49 ?_
      refine lv_iload_n hx hb dX0_man_52 rfl (lv_at hl 3 rfl) ?_
      refine lv_aload_n hx hb dX0_man_53 rfl (lv_at hl 0 rfl) ?_
      refine va_get (D := G.1) (ci := 0) (v := .ref h_now) (C := RX0) (T := TX0) (N := 18) hx hb hts in_X0 hown hK.1 hP 0 rfl rfl 1 (by decide) (hts _ q257) (fun _ h9 => h9) rfl dX0_man_54 ?_
      refine va_getN (D := G.1) (ci := 6) (v := .int (mn now)) (C := RX6) (T := TX6) (N := 8) hx hb hts in_X6 hown hK.1 hP 1 rfl rfl 4 (by decide) (hK.n q136 rfl) (fun _ h9 => h9) rfl dX0_man_57 ?_
      have hPc := hP.sub (ws' := [oc h_now 6 [.ref h_now_0, .ref h_now_1, .ref h_now_2, .ref h_now_3, .int (mn now), .int (ma now), .int (yr now), .int (dw now)], ai G h_now_0 6 (kd now), ai G h_now_1 18 (pl now), ai G h_now_2 6 (lf now), ai G h_now_3 6 (se now)]) [1, 2, 3, 4, 5] rfl
      have hDc := hD.sub (ws' := [oc h_now 6 [.ref h_now_0, .ref h_now_1, .ref h_now_2, .ref h_now_3, .int (mn now), .int (ma now), .int (yr now), .int (dw now)], ai G h_now_0 6 (kd now), ai G h_now_1 18 (pl now), ai G h_now_2 6 (lf now), ai G h_now_3 6 (se now)]) [1, 2, 3, 4, 5] (by decide) rfl
      have hFc := va_free (wc := [oc h_now 6 [.ref h_now_0, .ref h_now_1, .ref h_now_2, .ref h_now_3, .int (mn now), .int (ma now), .int (yr now), .int (dw now)], ai G h_now_0 6 (kd now), ai G h_now_1 18 (pl now), ai G h_now_2 6 (lf now), ai G h_now_3 6 (se now)]) hD hS hA [1, 2, 3, 4, 5] rfl
      refine va_calli (va_runV (As := [.int x3, .int (mn now)]) (rest := []) ⟨hx, hb, hml, hown, hts⟩ (mt_X6_manAt l G h_now h_now_0 h_now_1 h_now_2 h_now_3 H.size now x3 (mn now) _ hw) (cwV 2 hts (lw_V q320 q321 q322 q60 q323) rfl rfl rfl (by decide +kernel) ⟨Nat.le_of_ble_eq_true rfl, Nat.le_of_ble_eq_true rfl⟩) ⟨fun a U g mk q => by obtain ⟨q0, q1, qP, qK, qD⟩ := q; exact ⟨q0, q1, qP, qK.call, qD⟩, va_recv hK.1 hP (ci := 6) (q0 := 1) rfl rfl, fun U hU hW => ⟨rfl, by rw [hU], by rw [hU]; exact hPc, hK.warm hW, hDc.weaken (fun _ _ _ _ => trivial)⟩⟩ rfl rfl hl.1 rfl (lv_room (Nat.le_of_ble_eq_true rfl)) dX0_man_60 ⟨Nat.le_of_ble_eq_true rfl, Nat.le_of_ble_eq_true rfl⟩) hS (fun q _ h => hFc q h) hFc (fun r_2 _ t H1 locs ht hvm hw hB hz1 hk1 hS => ?_)
      obtain ⟨hP1, hD1⟩ := hB
      rw [ht] at hP1
      obtain ⟨hP, hD⟩ := va_join (wr := [oc h 0 [.ref h_kinds, .ref h_now, .ref h_fault, .ref h_tape, .int taped, .int reads, .ref h_got, .ref h_failing, .ref h_past, .int undoMany, .ref h_aside, .ref h_best, .ref h_tried, .ref h_kept, .ref h_keptPast, .int keptMany, .int isKept, .ref h_sheets]]) (w1 := [oc h_now 6 [.ref h_now_0, .ref h_now_1, .ref h_now_2, .ref h_now_3, .int (mn now), .int (ma now), .int (yr now), .int (dw now)], ai G h_now_0 6 (kd now), ai G h_now_1 18 (pl now), ai G h_now_2 6 (lf now), ai G h_now_3 6 (se now)]) hP hD [1, 2, 3, 4, 5] [0] rfl rfl (by decide) (by decide) hk1 hFc hP1 hD1
      clear hPc hDc hFc hP1 hD1 hz1 hk1 hvm
      generalize H1 = H at hP hS ⊢
      have hP : va_P G.1 gCl [oc h 0 [.ref h_kinds, .ref h_now, .ref h_fault, .ref h_tape, .int taped, .int reads, .ref h_got, .ref h_failing, .ref h_past, .int undoMany, .ref h_aside, .ref h_best, .ref h_tried, .ref h_kept, .ref h_keptPast, .int keptMany, .int isKept, .ref h_sheets], oc h_now 6 [.ref h_now_0, .ref h_now_1, .ref h_now_2, .ref h_now_3, .int (mn now), .int (ma now), .int (yr now), .int (dw now)], ai G h_now_0 6 (kd now), ai G h_now_1 18 (pl now), ai G h_now_2 6 (lf now), ai G h_now_3 6 (se now)] H := hP
      have hD : va_D A [oc h 0 [.ref h_kinds, .ref h_now, .ref h_fault, .ref h_tape, .int taped, .int reads, .ref h_got, .ref h_failing, .ref h_past, .int undoMany, .ref h_aside, .ref h_best, .ref h_tried, .ref h_kept, .ref h_keptPast, .int keptMany, .int isKept, .ref h_sheets], oc h_now 6 [.ref h_now_0, .ref h_now_1, .ref h_now_2, .ref h_now_3, .int (mn now), .int (ma now), .int (yr now), .int (dw now)], ai G h_now_0 6 (kd now), ai G h_now_1 18 (pl now), ai G h_now_2 6 (lf now), ai G h_now_3 6 (se now)] := hD
      refine lv_if_lt (tgt := 69) hx hb dX0_man_63 (by decide) (fun c_3 => ?_) (fun c_3 => ?_)
      · replace hw := hw.1 c_3
        refine lv_iinc (v := (x3 + (1 : Int32))) (lv' := [(3, .int (x3 + (1 : Int32))), (0, .ref h), (1, .int p1), (2, .int p2)]) hx hb dX0_man_69 hl (k := 3) rfl rfl (by decide) rfl (fun ls hl => ?_)
        refine lv_goto (tgt := 43) hx hb dX0_man_72 (by decide) ?_
        exact ih undoMany now (x3 + (1 : Int32)) H locs hP hD hS ls (lv_sub hl [1, 2, 3, 0] rfl) hw
      · replace hw := hw.2 c_3
        refine lv_bipush (v := (-2 : Int32)) hx hb dX0_man_66 (by decide) ?_
        have hP9 := hP
        have hD9 := hD
        exact W.iret (v := (-2 : Int32)) hx hb hr (fun t ht hW => ⟨⟨(-2 : Int32), (undoMany, now), rfl, hw, by rw [ht]; exact hP9, hD9⟩, hS.F ht⟩) hS.2.2 dX0_man_68
def wp_X0_man (undoMany : Int32) (now : BT) (p1 : Int32) (p2 : Int32) (Q : Int32 → (Int32 × BT) → Prop) : Prop :=
  wp_X0_isIn  (Int32.toInt64 p1) (0 : Int64) (4 : Int64) (fun r_1 => (((r_1 = 0) → Q (-1 : Int32) (undoMany, now)) ∧ (¬ (r_1 = 0) → wp_X0_isIn  (Int32.toInt64 p2) (1 : Int64) (60 : Int64) (fun r_3 => ((¬ (r_3 = 0) → ((¬ ((mn now) = (6 : Int32)) → (∃ j_ : Nat, wp_X0_man_43 p1 p2 Q  j_ undoMany now (0 : Int32))) ∧ (((mn now) = (6 : Int32)) → Q (-3 : Int32) (undoMany, now)))) ∧ ((r_3 = 0) → Q (-1 : Int32) (undoMany, now)))))))
set_option maxHeartbeats 4000000 in
theorem mt_X0_man (l : Launch) (G : GT) (h h_kinds h_now h_fault h_tape h_got h_failing h_past h_aside h_best h_tried h_kept h_keptPast h_sheets h_now_0 h_now_1 h_now_2 h_now_3 : Nat) (sz : Nat) (taped : Int32) (reads : Int32) (undoMany : Int32) (keptMany : Int32) (isKept : Int32) (now : BT) (p1 : Int32) (p2 : Int32) (Q : Int32 → (Int32 × BT) → Prop) (hw : wp_X0_man undoMany now p1 p2 Q) : Met l yX0_man (ws_ yX0_man cX0_man 4 (some .int)) ({ frames := 2, cells := 0, slots := 0, locals := 45 } : Room) (va_Pc [.ref h, .int p1, .int p2] (fun U => U.heap.size = sz ∧ va_P G.1 gCl [oc h 0 [.ref h_kinds, .ref h_now, .ref h_fault, .ref h_tape, .int taped, .int reads, .ref h_got, .ref h_failing, .ref h_past, .int undoMany, .ref h_aside, .ref h_best, .ref h_tried, .ref h_kept, .ref h_keptPast, .int keptMany, .int isKept, .ref h_sheets], oc h_now 6 [.ref h_now_0, .ref h_now_1, .ref h_now_2, .ref h_now_3, .int (mn now), .int (ma now), .int (yr now), .int (dw now)], ai G h_now_0 6 (kd now), ai G h_now_1 18 (pl now), ai G h_now_2 6 (lf now), ai G h_now_3 6 (se now)] U.heap ∧ gK G U ∧ va_D (fun _ => True) [oc h 0 [.ref h_kinds, .ref h_now, .ref h_fault, .ref h_tape, .int taped, .int reads, .ref h_got, .ref h_failing, .ref h_past, .int undoMany, .ref h_aside, .ref h_best, .ref h_tried, .ref h_kept, .ref h_keptPast, .int keptMany, .int isKept, .ref h_sheets], oc h_now 6 [.ref h_now_0, .ref h_now_1, .ref h_now_2, .ref h_now_3, .int (mn now), .int (ma now), .int (yr now), .int (dw now)], ai G h_now_0 6 (kd now), ai G h_now_1 18 (pl now), ai G h_now_2 6 (lf now), ai G h_now_3 6 (se now)])) ((fun A => (va_Qi (fun (r : Int32) (u : Int32 × BT) => Q r u) (fun u t => va_P G.1 gCl [oc h 0 [.ref h_kinds, .ref h_now, .ref h_fault, .ref h_tape, .int taped, .int reads, .ref h_got, .ref h_failing, .ref h_past, .int u.1, .ref h_aside, .ref h_best, .ref h_tried, .ref h_kept, .ref h_keptPast, .int keptMany, .int isKept, .ref h_sheets], oc h_now 6 [.ref h_now_0, .ref h_now_1, .ref h_now_2, .ref h_now_3, .int (mn u.2), .int (ma u.2), .int (yr u.2), .int (dw u.2)], ai G h_now_0 6 (kd u.2), ai G h_now_1 18 (pl u.2), ai G h_now_2 6 (lf u.2), ai G h_now_3 6 (se u.2)] t.heap ∧ va_D A [oc h 0 [.ref h_kinds, .ref h_now, .ref h_fault, .ref h_tape, .int taped, .int reads, .ref h_got, .ref h_failing, .ref h_past, .int u.1, .ref h_aside, .ref h_best, .ref h_tried, .ref h_kept, .ref h_keptPast, .int keptMany, .int isKept, .ref h_sheets], oc h_now 6 [.ref h_now_0, .ref h_now_1, .ref h_now_2, .ref h_now_3, .int (mn u.2), .int (ma u.2), .int (yr u.2), .int (dw u.2)], ai G h_now_0 6 (kd u.2), ai G h_now_1 18 (pl u.2), ai G h_now_2 6 (lf u.2), ai G h_now_3 6 (se u.2)]) A)) (va_A [oc h 0 [.ref h_kinds, .ref h_now, .ref h_fault, .ref h_tape, .int taped, .int reads, .ref h_got, .ref h_failing, .ref h_past, .int undoMany, .ref h_aside, .ref h_best, .ref h_tried, .ref h_kept, .ref h_keptPast, .int keptMany, .int isKept, .ref h_sheets], oc h_now 6 [.ref h_now_0, .ref h_now_1, .ref h_now_2, .ref h_now_3, .int (mn now), .int (ma now), .int (yr now), .int (dw now)], ai G h_now_0 6 (kd now), ai G h_now_1 18 (pl now), ai G h_now_2 6 (lf now), ai G h_now_3 6 (se now)] sz)) 0 0 (va_A [oc h 0 [.ref h_kinds, .ref h_now, .ref h_fault, .ref h_tape, .int taped, .int reads, .ref h_got, .ref h_failing, .ref h_past, .int undoMany, .ref h_aside, .ref h_best, .ref h_tried, .ref h_kept, .ref h_keptPast, .int keptMany, .int isKept, .ref h_sheets], oc h_now 6 [.ref h_now_0, .ref h_now_1, .ref h_now_2, .ref h_now_3, .int (mn now), .int (ma now), .int (yr now), .int (dw now)], ai G h_now_0 6 (kd now), ai G h_now_1 18 (pl now), ai G h_now_2 6 (lf now), ai G h_now_3 6 (se now)] sz) := by
  refine Met.ofW (cc := cX0_man) (maxL := 4) (ret := (some .int)) (by decide) rfl ?_
  intro p e s m args below meth c s₁ B hml hv
  obtain ⟨rfl, hsz, hP, hK, hD0⟩ := hv
  have hx := B.exec
  have hb := B.bytes
  have hr := B.returns
  have hts := atoms_spec (ws := (ws_ yX0_man cX0_man 4 (some .int))) B.pre
  have hts : ∀ w ∈ lw_all, w.before _ s = true := fun w h => hts w (List.mem_cons_of_mem _ h)
  have hown : s.vm.findClass RX0 = some m.cls := findClass_of_methodNamed B.named
  have hlocks := B.notSynchronized
  subst hsz
  have hD := hD0.self (sz := s.heap.size)
  generalize hAe : va_A [oc h 0 [.ref h_kinds, .ref h_now, .ref h_fault, .ref h_tape, .int taped, .int reads, .ref h_got, .ref h_failing, .ref h_past, .int undoMany, .ref h_aside, .ref h_best, .ref h_tried, .ref h_kept, .ref h_keptPast, .int keptMany, .int isKept, .ref h_sheets], oc h_now 6 [.ref h_now_0, .ref h_now_1, .ref h_now_2, .ref h_now_3, .int (mn now), .int (ma now), .int (yr now), .int (dw now)], ai G h_now_0 6 (kd now), ai G h_now_1 18 (pl now), ai G h_now_2 6 (lf now), ai G h_now_3 6 (se now)] s.heap.size = A at hD ⊢
  have hA : ∀ q : Nat, s.heap.size ≤ q → A q := fun q h => by rw [← hAe]; exact Or.inr h
  have hS : va_S A s.heap s.heap [] := va_S.rf
  have C : Cx p s m meth c cX0_man 4 (some .int) RX0 ([.ref h, .int p1, .int p2] : List Value).toArray G A := ⟨hx, hb, hr, hlocks, hml, hown, hts, hK, hA⟩
  have hl := lv_entry ([.ref h, .int p1, .int p2]) (n := 4) (Nat.le_of_ble_eq_true rfl)
  rw [lg_entry_eq]
  generalize (lg_sl ([.ref h, .int p1, .int p2]) ++ List.replicate (4 - (lg_sl ([.ref h, .int p1, .int p2])).length) Slot.unset).toArray = ls at hl ⊢
  have hl : lv_has ls 4 [(0, .ref h), (1, .int p1), (2, .int p2)] := hl
  unfold wp_X0_man at hw
  refine lv_iload_n hx hb dX0_man_0 rfl (lv_at hl 1 rfl) ?_
  refine lv_i2l hx hb dX0_man_1 rfl ?_
  refine lv_lconst (v := (0 : Int64)) hx hb dX0_man_2 (by decide) ?_
  refine lv_ldc2 (v := (4 : Int64)) hx hb hown (hts _ q315) dX0_man_3 ?_
  have hPc := hP.sub (ws' := []) [] rfl
  have hDc := hD.sub (ws' := []) [] (by decide) rfl
  have hFc := va_free (wc := []) hD hS hA [] rfl
  refine va_calli (va_runS (As := [.long (Int32.toInt64 p1), .long (0 : Int64), .long (4 : Int64)]) (rest := []) ⟨hx, hb, hml, hown, hts⟩ (mt_X0_isIn l G  s.heap.size  (Int32.toInt64 p1) (0 : Int64) (4 : Int64) _ hw) (va_cwS 3 hts (lw_S q316 q317 q54 q318) rfl rfl rfl (by decide +kernel) ⟨Nat.le_of_ble_eq_true rfl, Nat.le_of_ble_eq_true rfl⟩) ⟨fun a U g mk q => by obtain ⟨q0, q1, qP, qK, qD⟩ := q; exact ⟨q0, q1, qP, qK.call, qD⟩, fun U hU hW => ⟨rfl, by rw [hU], by rw [hU]; exact hPc, hK.warm hW, hDc.weaken (fun _ _ _ _ => trivial)⟩⟩ rfl rfl hl.1 rfl (lv_room (Nat.le_of_ble_eq_true rfl)) dX0_man_6 ⟨Nat.le_of_ble_eq_true rfl, Nat.le_of_ble_eq_true rfl⟩) hS (fun q _ h => hFc q h) hFc (fun r_1 _ t H1 locs ht hvm hw hB hz1 hk1 hS => ?_)
  obtain ⟨hP1, hD1⟩ := hB
  rw [ht] at hP1
  obtain ⟨hP, hD⟩ := va_join (wr := [oc h 0 [.ref h_kinds, .ref h_now, .ref h_fault, .ref h_tape, .int taped, .int reads, .ref h_got, .ref h_failing, .ref h_past, .int undoMany, .ref h_aside, .ref h_best, .ref h_tried, .ref h_kept, .ref h_keptPast, .int keptMany, .int isKept, .ref h_sheets], oc h_now 6 [.ref h_now_0, .ref h_now_1, .ref h_now_2, .ref h_now_3, .int (mn now), .int (ma now), .int (yr now), .int (dw now)], ai G h_now_0 6 (kd now), ai G h_now_1 18 (pl now), ai G h_now_2 6 (lf now), ai G h_now_3 6 (se now)]) (w1 := []) hP hD [] [0, 1, 2, 3, 4, 5] rfl rfl (by decide) (by decide) hk1 hFc hP1 hD1
  clear hPc hDc hFc hP1 hD1 hz1 hk1 hvm
  generalize H1 = H at hP hS ⊢
  have hP : va_P G.1 gCl [oc h 0 [.ref h_kinds, .ref h_now, .ref h_fault, .ref h_tape, .int taped, .int reads, .ref h_got, .ref h_failing, .ref h_past, .int undoMany, .ref h_aside, .ref h_best, .ref h_tried, .ref h_kept, .ref h_keptPast, .int keptMany, .int isKept, .ref h_sheets], oc h_now 6 [.ref h_now_0, .ref h_now_1, .ref h_now_2, .ref h_now_3, .int (mn now), .int (ma now), .int (yr now), .int (dw now)], ai G h_now_0 6 (kd now), ai G h_now_1 18 (pl now), ai G h_now_2 6 (lf now), ai G h_now_3 6 (se now)] H := hP
  have hD : va_D A [oc h 0 [.ref h_kinds, .ref h_now, .ref h_fault, .ref h_tape, .int taped, .int reads, .ref h_got, .ref h_failing, .ref h_past, .int undoMany, .ref h_aside, .ref h_best, .ref h_tried, .ref h_kept, .ref h_keptPast, .int keptMany, .int isKept, .ref h_sheets], oc h_now 6 [.ref h_now_0, .ref h_now_1, .ref h_now_2, .ref h_now_3, .int (mn now), .int (ma now), .int (yr now), .int (dw now)], ai G h_now_0 6 (kd now), ai G h_now_1 18 (pl now), ai G h_now_2 6 (lf now), ai G h_now_3 6 (se now)] := hD
  refine lv_if_eq (tgt := 24) hx hb dX0_man_9 (by decide) (fun c_2 => ?_) (fun c_2 => ?_)
  · replace hw := hw.1 c_2
    refine lv_iconst (v := (-1 : Int32)) hx hb dX0_man_24 (by decide) ?_
    have hP9 := hP
    have hD9 := hD
    exact W.iret (v := (-1 : Int32)) hx hb hr (fun t ht hW => ⟨⟨(-1 : Int32), (undoMany, now), rfl, hw, by rw [ht]; exact hP9, hD9⟩, hS.F ht⟩) hS.2.2 dX0_man_25
  · replace hw := hw.2 c_2
    refine lv_iload_n hx hb dX0_man_12 rfl (lv_at hl 2 rfl) ?_
    refine lv_i2l hx hb dX0_man_13 rfl ?_
    refine lv_lconst (v := (1 : Int64)) hx hb dX0_man_14 (by decide) ?_
    refine lv_ldc2 (v := (60 : Int64)) hx hb hown (hts _ q319) dX0_man_15 ?_
    have hPc := hP.sub (ws' := []) [] rfl
    have hDc := hD.sub (ws' := []) [] (by decide) rfl
    have hFc := va_free (wc := []) hD hS hA [] rfl
    refine va_calli (va_runS (As := [.long (Int32.toInt64 p2), .long (1 : Int64), .long (60 : Int64)]) (rest := []) ⟨hx, hb, hml, hown, hts⟩ (mt_X0_isIn l G  H.size  (Int32.toInt64 p2) (1 : Int64) (60 : Int64) _ hw) (va_cwS 3 hts (lw_S q316 q317 q54 q318) rfl rfl rfl (by decide +kernel) ⟨Nat.le_of_ble_eq_true rfl, Nat.le_of_ble_eq_true rfl⟩) ⟨fun a U g mk q => by obtain ⟨q0, q1, qP, qK, qD⟩ := q; exact ⟨q0, q1, qP, qK.call, qD⟩, fun U hU hW => ⟨rfl, by rw [hU], by rw [hU]; exact hPc, hK.warm hW, hDc.weaken (fun _ _ _ _ => trivial)⟩⟩ rfl rfl hl.1 rfl (lv_room (Nat.le_of_ble_eq_true rfl)) dX0_man_18 ⟨Nat.le_of_ble_eq_true rfl, Nat.le_of_ble_eq_true rfl⟩) hS (fun q _ h => hFc q h) hFc (fun r_3 _ t H1 locs ht hvm hw hB hz1 hk1 hS => ?_)
    obtain ⟨hP1, hD1⟩ := hB
    rw [ht] at hP1
    obtain ⟨hP, hD⟩ := va_join (wr := [oc h 0 [.ref h_kinds, .ref h_now, .ref h_fault, .ref h_tape, .int taped, .int reads, .ref h_got, .ref h_failing, .ref h_past, .int undoMany, .ref h_aside, .ref h_best, .ref h_tried, .ref h_kept, .ref h_keptPast, .int keptMany, .int isKept, .ref h_sheets], oc h_now 6 [.ref h_now_0, .ref h_now_1, .ref h_now_2, .ref h_now_3, .int (mn now), .int (ma now), .int (yr now), .int (dw now)], ai G h_now_0 6 (kd now), ai G h_now_1 18 (pl now), ai G h_now_2 6 (lf now), ai G h_now_3 6 (se now)]) (w1 := []) hP hD [] [0, 1, 2, 3, 4, 5] rfl rfl (by decide) (by decide) hk1 hFc hP1 hD1
    clear hPc hDc hFc hP1 hD1 hz1 hk1 hvm
    generalize H1 = H at hP hS ⊢
    have hP : va_P G.1 gCl [oc h 0 [.ref h_kinds, .ref h_now, .ref h_fault, .ref h_tape, .int taped, .int reads, .ref h_got, .ref h_failing, .ref h_past, .int undoMany, .ref h_aside, .ref h_best, .ref h_tried, .ref h_kept, .ref h_keptPast, .int keptMany, .int isKept, .ref h_sheets], oc h_now 6 [.ref h_now_0, .ref h_now_1, .ref h_now_2, .ref h_now_3, .int (mn now), .int (ma now), .int (yr now), .int (dw now)], ai G h_now_0 6 (kd now), ai G h_now_1 18 (pl now), ai G h_now_2 6 (lf now), ai G h_now_3 6 (se now)] H := hP
    have hD : va_D A [oc h 0 [.ref h_kinds, .ref h_now, .ref h_fault, .ref h_tape, .int taped, .int reads, .ref h_got, .ref h_failing, .ref h_past, .int undoMany, .ref h_aside, .ref h_best, .ref h_tried, .ref h_kept, .ref h_keptPast, .int keptMany, .int isKept, .ref h_sheets], oc h_now 6 [.ref h_now_0, .ref h_now_1, .ref h_now_2, .ref h_now_3, .int (mn now), .int (ma now), .int (yr now), .int (dw now)], ai G h_now_0 6 (kd now), ai G h_now_1 18 (pl now), ai G h_now_2 6 (lf now), ai G h_now_3 6 (se now)] := hD
    refine lv_if_ne (tgt := 26) hx hb dX0_man_21 (by decide) (fun c_4 => ?_) (fun c_4 => ?_)
    · replace hw := hw.1 c_4
      refine lv_aload_n hx hb dX0_man_26 rfl (lv_at hl 0 rfl) ?_
      refine va_get (D := G.1) (ci := 0) (v := .ref h_now) (C := RX0) (T := TX0) (N := 18) hx hb hts in_X0 hown hK.1 hP 0 rfl rfl 1 (by decide) (hts _ q257) (fun _ h9 => h9) rfl dX0_man_27 ?_
      refine va_getN (D := G.1) (ci := 6) (v := .int (mn now)) (C := RX6) (T := TX6) (N := 8) hx hb hts in_X6 hown hK.1 hP 1 rfl rfl 4 (by decide) (hK.n q136 rfl) (fun _ h9 => h9) rfl dX0_man_30 ?_
      refine lv_bipush (v := (6 : Int32)) hx hb dX0_man_33 (by decide) ?_
      refine lv_icmp_ne (tgt := 41) hx hb dX0_man_35 (by decide) (fun c_5 => ?_) (fun c_5 => ?_)
      · replace hw := hw.1 c_5
        refine lv_iconst (v := (0 : Int32)) hx hb dX0_man_41 (by decide) ?_
        refine lv_istore_n (lv' := [(3, .int (0 : Int32)), (0, .ref h), (1, .int p1), (2, .int p2)]) hx hb dX0_man_42 rfl hl (by decide) rfl (fun ls hl => ?_)
        obtain ⟨j_, hw⟩ := hw
        exact wk_X0_man_43 h h_kinds h_now h_fault h_tape h_got h_failing h_past h_aside h_best h_tried h_kept h_keptPast h_sheets h_now_0 h_now_1 h_now_2 h_now_3 taped reads keptMany isKept p1 p2  Q  C  j_ undoMany now (0 : Int32) H locs hP hD hS ls (lv_sub hl [1, 2, 3, 0] rfl) hw
      · replace hw := hw.2 c_5
        refine lv_bipush (v := (-3 : Int32)) hx hb dX0_man_38 (by decide) ?_
        have hP9 := hP
        have hD9 := hD
        exact W.iret (v := (-3 : Int32)) hx hb hr (fun t ht hW => ⟨⟨(-3 : Int32), (undoMany, now), rfl, hw, by rw [ht]; exact hP9, hD9⟩, hS.F ht⟩) hS.2.2 dX0_man_40
    · replace hw := hw.2 c_4
      refine lv_iconst (v := (-1 : Int32)) hx hb dX0_man_24 (by decide) ?_
      have hP9 := hP
      have hD9 := hD
      exact W.iret (v := (-1 : Int32)) hx hb hr (fun t ht hW => ⟨⟨(-1 : Int32), (undoMany, now), rfl, hw, by rw [ht]; exact hP9, hD9⟩, hS.F ht⟩) hS.2.2 dX0_man_25
/-! BattleBench.isMan(I)Z -/
def wp_X0_isMan (now : BT) (p1 : Int32) (Q : Int32 → Prop) : Prop :=
  wp_X0_isIn  (Int32.toInt64 p1) (0 : Int64) (Int32.toInt64 ((mn now) - (1 : Int32))) (fun r_1 => (z01 r_1 ∧ Q r_1))
set_option maxHeartbeats 4000000 in
theorem mt_X0_isMan (l : Launch) (G : GT) (h h_kinds h_now h_fault h_tape h_got h_failing h_past h_aside h_best h_tried h_kept h_keptPast h_sheets h_now_0 h_now_1 h_now_2 h_now_3 : Nat) (sz : Nat) (taped : Int32) (reads : Int32) (undoMany : Int32) (keptMany : Int32) (isKept : Int32) (now : BT) (p1 : Int32) (Q : Int32 → Prop) (hw : wp_X0_isMan now p1 Q) : Met l yX0_isMan (ws_ yX0_isMan cX0_isMan 2 (some .boolean)) ({ frames := 1, cells := 0, slots := 0, locals := 25 } : Room) (va_Pc [.ref h, .int p1] (fun U => U.heap.size = sz ∧ va_P G.1 gCl [oc h 0 [.ref h_kinds, .ref h_now, .ref h_fault, .ref h_tape, .int taped, .int reads, .ref h_got, .ref h_failing, .ref h_past, .int undoMany, .ref h_aside, .ref h_best, .ref h_tried, .ref h_kept, .ref h_keptPast, .int keptMany, .int isKept, .ref h_sheets], oc h_now 6 [.ref h_now_0, .ref h_now_1, .ref h_now_2, .ref h_now_3, .int (mn now), .int (ma now), .int (yr now), .int (dw now)], ai G h_now_0 6 (kd now), ai G h_now_1 18 (pl now), ai G h_now_2 6 (lf now), ai G h_now_3 6 (se now)] U.heap ∧ gK G U ∧ va_D (fun _ => True) [oc h 0 [.ref h_kinds, .ref h_now, .ref h_fault, .ref h_tape, .int taped, .int reads, .ref h_got, .ref h_failing, .ref h_past, .int undoMany, .ref h_aside, .ref h_best, .ref h_tried, .ref h_kept, .ref h_keptPast, .int keptMany, .int isKept, .ref h_sheets], oc h_now 6 [.ref h_now_0, .ref h_now_1, .ref h_now_2, .ref h_now_3, .int (mn now), .int (ma now), .int (yr now), .int (dw now)], ai G h_now_0 6 (kd now), ai G h_now_1 18 (pl now), ai G h_now_2 6 (lf now), ai G h_now_3 6 (se now)])) ((fun A => (va_Qi (fun (r : Int32) (u : Unit) => Q r ) (fun u t => va_P G.1 gCl [oc h 0 [.ref h_kinds, .ref h_now, .ref h_fault, .ref h_tape, .int taped, .int reads, .ref h_got, .ref h_failing, .ref h_past, .int undoMany, .ref h_aside, .ref h_best, .ref h_tried, .ref h_kept, .ref h_keptPast, .int keptMany, .int isKept, .ref h_sheets], oc h_now 6 [.ref h_now_0, .ref h_now_1, .ref h_now_2, .ref h_now_3, .int (mn now), .int (ma now), .int (yr now), .int (dw now)], ai G h_now_0 6 (kd now), ai G h_now_1 18 (pl now), ai G h_now_2 6 (lf now), ai G h_now_3 6 (se now)] t.heap ∧ va_D A [oc h 0 [.ref h_kinds, .ref h_now, .ref h_fault, .ref h_tape, .int taped, .int reads, .ref h_got, .ref h_failing, .ref h_past, .int undoMany, .ref h_aside, .ref h_best, .ref h_tried, .ref h_kept, .ref h_keptPast, .int keptMany, .int isKept, .ref h_sheets], oc h_now 6 [.ref h_now_0, .ref h_now_1, .ref h_now_2, .ref h_now_3, .int (mn now), .int (ma now), .int (yr now), .int (dw now)], ai G h_now_0 6 (kd now), ai G h_now_1 18 (pl now), ai G h_now_2 6 (lf now), ai G h_now_3 6 (se now)]) A)) (va_A [oc h 0 [.ref h_kinds, .ref h_now, .ref h_fault, .ref h_tape, .int taped, .int reads, .ref h_got, .ref h_failing, .ref h_past, .int undoMany, .ref h_aside, .ref h_best, .ref h_tried, .ref h_kept, .ref h_keptPast, .int keptMany, .int isKept, .ref h_sheets], oc h_now 6 [.ref h_now_0, .ref h_now_1, .ref h_now_2, .ref h_now_3, .int (mn now), .int (ma now), .int (yr now), .int (dw now)], ai G h_now_0 6 (kd now), ai G h_now_1 18 (pl now), ai G h_now_2 6 (lf now), ai G h_now_3 6 (se now)] sz)) 0 0 (va_A [oc h 0 [.ref h_kinds, .ref h_now, .ref h_fault, .ref h_tape, .int taped, .int reads, .ref h_got, .ref h_failing, .ref h_past, .int undoMany, .ref h_aside, .ref h_best, .ref h_tried, .ref h_kept, .ref h_keptPast, .int keptMany, .int isKept, .ref h_sheets], oc h_now 6 [.ref h_now_0, .ref h_now_1, .ref h_now_2, .ref h_now_3, .int (mn now), .int (ma now), .int (yr now), .int (dw now)], ai G h_now_0 6 (kd now), ai G h_now_1 18 (pl now), ai G h_now_2 6 (lf now), ai G h_now_3 6 (se now)] sz) := by
  refine Met.ofW (cc := cX0_isMan) (maxL := 2) (ret := (some .boolean)) (by decide) rfl ?_
  intro p e s m args below meth c s₁ B hml hv
  obtain ⟨rfl, hsz, hP, hK, hD0⟩ := hv
  have hx := B.exec
  have hb := B.bytes
  have hr := B.returns
  have hts := atoms_spec (ws := (ws_ yX0_isMan cX0_isMan 2 (some .boolean))) B.pre
  have hts : ∀ w ∈ lw_all, w.before _ s = true := fun w h => hts w (List.mem_cons_of_mem _ h)
  have hown : s.vm.findClass RX0 = some m.cls := findClass_of_methodNamed B.named
  have hlocks := B.notSynchronized
  subst hsz
  have hD := hD0.self (sz := s.heap.size)
  generalize hAe : va_A [oc h 0 [.ref h_kinds, .ref h_now, .ref h_fault, .ref h_tape, .int taped, .int reads, .ref h_got, .ref h_failing, .ref h_past, .int undoMany, .ref h_aside, .ref h_best, .ref h_tried, .ref h_kept, .ref h_keptPast, .int keptMany, .int isKept, .ref h_sheets], oc h_now 6 [.ref h_now_0, .ref h_now_1, .ref h_now_2, .ref h_now_3, .int (mn now), .int (ma now), .int (yr now), .int (dw now)], ai G h_now_0 6 (kd now), ai G h_now_1 18 (pl now), ai G h_now_2 6 (lf now), ai G h_now_3 6 (se now)] s.heap.size = A at hD ⊢
  have hA : ∀ q : Nat, s.heap.size ≤ q → A q := fun q h => by rw [← hAe]; exact Or.inr h
  have hS : va_S A s.heap s.heap [] := va_S.rf
  have C : Cx p s m meth c cX0_isMan 2 (some .boolean) RX0 ([.ref h, .int p1] : List Value).toArray G A := ⟨hx, hb, hr, hlocks, hml, hown, hts, hK, hA⟩
  have hl := lv_entry ([.ref h, .int p1]) (n := 2) (Nat.le_of_ble_eq_true rfl)
  rw [lg_entry_eq]
  generalize (lg_sl ([.ref h, .int p1]) ++ List.replicate (2 - (lg_sl ([.ref h, .int p1])).length) Slot.unset).toArray = ls at hl ⊢
  have hl : lv_has ls 2 [(0, .ref h), (1, .int p1)] := hl
  unfold wp_X0_isMan at hw
  refine lv_iload_n hx hb dX0_isMan_0 rfl (lv_at hl 1 rfl) ?_
  refine lv_i2l hx hb dX0_isMan_1 rfl ?_
  refine lv_lconst (v := (0 : Int64)) hx hb dX0_isMan_2 (by decide) ?_
  refine lv_aload_n hx hb dX0_isMan_3 rfl (lv_at hl 0 rfl) ?_
  refine va_get (D := G.1) (ci := 0) (v := .ref h_now) (C := RX0) (T := TX0) (N := 18) hx hb hts in_X0 hown hK.1 hP 0 rfl rfl 1 (by decide) (hts _ q257) (fun _ h9 => h9) rfl dX0_isMan_4 ?_
  refine va_getN (D := G.1) (ci := 6) (v := .int (mn now)) (C := RX6) (T := TX6) (N := 8) hx hb hts in_X6 hown hK.1 hP 1 rfl rfl 4 (by decide) (hK.n q136 rfl) (fun _ h9 => h9) rfl dX0_isMan_7 ?_
  refine lv_iconst (v := (1 : Int32)) hx hb dX0_isMan_10 (by decide) ?_
  refine lv_isub hx hb dX0_isMan_11 ?_
  refine lv_i2l hx hb dX0_isMan_12 rfl ?_
  have hPc := hP.sub (ws' := []) [] rfl
  have hDc := hD.sub (ws' := []) [] (by decide) rfl
  have hFc := va_free (wc := []) hD hS hA [] rfl
  refine va_calli (va_runS (As := [.long (Int32.toInt64 p1), .long (0 : Int64), .long (Int32.toInt64 ((mn now) - (1 : Int32)))]) (rest := []) ⟨hx, hb, hml, hown, hts⟩ (mt_X0_isIn l G  s.heap.size  (Int32.toInt64 p1) (0 : Int64) (Int32.toInt64 ((mn now) - (1 : Int32))) _ hw) (va_cwS 3 hts (lw_S q316 q317 q54 q318) rfl rfl rfl (by decide +kernel) ⟨Nat.le_of_ble_eq_true rfl, Nat.le_of_ble_eq_true rfl⟩) ⟨fun a U g mk q => by obtain ⟨q0, q1, qP, qK, qD⟩ := q; exact ⟨q0, q1, qP, qK.call, qD⟩, fun U hU hW => ⟨rfl, by rw [hU], by rw [hU]; exact hPc, hK.warm hW, hDc.weaken (fun _ _ _ _ => trivial)⟩⟩ rfl rfl hl.1 rfl (lv_room (Nat.le_of_ble_eq_true rfl)) dX0_isMan_13 ⟨Nat.le_of_ble_eq_true rfl, Nat.le_of_ble_eq_true rfl⟩) hS (fun q _ h => hFc q h) hFc (fun r_1 _ t H1 locs ht hvm hw hB hz1 hk1 hS => ?_)
  obtain ⟨hP1, hD1⟩ := hB
  rw [ht] at hP1
  obtain ⟨hP, hD⟩ := va_join (wr := [oc h 0 [.ref h_kinds, .ref h_now, .ref h_fault, .ref h_tape, .int taped, .int reads, .ref h_got, .ref h_failing, .ref h_past, .int undoMany, .ref h_aside, .ref h_best, .ref h_tried, .ref h_kept, .ref h_keptPast, .int keptMany, .int isKept, .ref h_sheets], oc h_now 6 [.ref h_now_0, .ref h_now_1, .ref h_now_2, .ref h_now_3, .int (mn now), .int (ma now), .int (yr now), .int (dw now)], ai G h_now_0 6 (kd now), ai G h_now_1 18 (pl now), ai G h_now_2 6 (lf now), ai G h_now_3 6 (se now)]) (w1 := []) hP hD [] [0, 1, 2, 3, 4, 5] rfl rfl (by decide) (by decide) hk1 hFc hP1 hD1
  clear hPc hDc hFc hP1 hD1 hz1 hk1 hvm
  generalize H1 = H at hP hS ⊢
  have hP : va_P G.1 gCl [oc h 0 [.ref h_kinds, .ref h_now, .ref h_fault, .ref h_tape, .int taped, .int reads, .ref h_got, .ref h_failing, .ref h_past, .int undoMany, .ref h_aside, .ref h_best, .ref h_tried, .ref h_kept, .ref h_keptPast, .int keptMany, .int isKept, .ref h_sheets], oc h_now 6 [.ref h_now_0, .ref h_now_1, .ref h_now_2, .ref h_now_3, .int (mn now), .int (ma now), .int (yr now), .int (dw now)], ai G h_now_0 6 (kd now), ai G h_now_1 18 (pl now), ai G h_now_2 6 (lf now), ai G h_now_3 6 (se now)] H := hP
  have hD : va_D A [oc h 0 [.ref h_kinds, .ref h_now, .ref h_fault, .ref h_tape, .int taped, .int reads, .ref h_got, .ref h_failing, .ref h_past, .int undoMany, .ref h_aside, .ref h_best, .ref h_tried, .ref h_kept, .ref h_keptPast, .int keptMany, .int isKept, .ref h_sheets], oc h_now 6 [.ref h_now_0, .ref h_now_1, .ref h_now_2, .ref h_now_3, .int (mn now), .int (ma now), .int (yr now), .int (dw now)], ai G h_now_0 6 (kd now), ai G h_now_1 18 (pl now), ai G h_now_2 6 (lf now), ai G h_now_3 6 (se now)] := hD
  obtain ⟨hz, hw⟩ := hw
  have hP9 := hP
  have hD9 := hD
  exact W.zret (v := r_1) hx hb hr (z01.nar hz) (fun t ht hW => ⟨⟨r_1, (), rfl, hw, by rw [ht]; exact hP9, hD9⟩, hS.F ht⟩) hS.2.2 dX0_isMan_16
/-! BattleBench.isHour(I)Z -/
def wp_X0_isHour (p0 : Int32) (Q : Int32 → Prop) : Prop :=
  wp_X0_isIn  (Int32.toInt64 p0) (0 : Int64) (2 : Int64) (fun r_1 => (z01 r_1 ∧ Q r_1))
set_option maxHeartbeats 4000000 in
theorem mt_X0_isHour (l : Launch) (G : GT)  (sz : Nat) (p0 : Int32) (Q : Int32 → Prop) (hw : wp_X0_isHour p0 Q) : Met l yX0_isHour (ws_ yX0_isHour cX0_isHour 1 (some .boolean)) ({ frames := 1, cells := 0, slots := 0, locals := 25 } : Room) (va_Pc [.int p0] (fun U => U.heap.size = sz ∧ va_P G.1 gCl [] U.heap ∧ gK G U ∧ va_D (fun _ => True) [])) ((fun A => (va_Qi (fun (r : Int32) (u : Unit) => Q r ) (fun u t => va_P G.1 gCl [] t.heap ∧ va_D A []) A)) (va_A [] sz)) 0 0 (va_A [] sz) := by
  refine Met.ofW (cc := cX0_isHour) (maxL := 1) (ret := (some .boolean)) (by decide) rfl ?_
  intro p e s m args below meth c s₁ B hml hv
  obtain ⟨rfl, hsz, hP, hK, hD0⟩ := hv
  have hx := B.exec
  have hb := B.bytes
  have hr := B.returns
  have hts := atoms_spec (ws := (ws_ yX0_isHour cX0_isHour 1 (some .boolean))) B.pre
  have hts : ∀ w ∈ lw_all, w.before _ s = true := fun w h => hts w (List.mem_cons_of_mem _ h)
  have hown : s.vm.findClass RX0 = some m.cls := findClass_of_methodNamed B.named
  have hlocks := B.notSynchronized
  subst hsz
  have hD := hD0.self (sz := s.heap.size)
  generalize hAe : va_A [] s.heap.size = A at hD ⊢
  have hA : ∀ q : Nat, s.heap.size ≤ q → A q := fun q h => by rw [← hAe]; exact Or.inr h
  have hS : va_S A s.heap s.heap [] := va_S.rf
  have C : Cx p s m meth c cX0_isHour 1 (some .boolean) RX0 ([.int p0] : List Value).toArray G A := ⟨hx, hb, hr, hlocks, hml, hown, hts, hK, hA⟩
  have hl := lv_entry ([.int p0]) (n := 1) (Nat.le_of_ble_eq_true rfl)
  rw [lg_entry_eq]
  generalize (lg_sl ([.int p0]) ++ List.replicate (1 - (lg_sl ([.int p0])).length) Slot.unset).toArray = ls at hl ⊢
  have hl : lv_has ls 1 [(0, .int p0)] := hl
  unfold wp_X0_isHour at hw
  refine lv_iload_n hx hb dX0_isHour_0 rfl (lv_at hl 0 rfl) ?_
  refine lv_i2l hx hb dX0_isHour_1 rfl ?_
  refine lv_lconst (v := (0 : Int64)) hx hb dX0_isHour_2 (by decide) ?_
  refine lv_ldc2 (v := (2 : Int64)) hx hb hown (hts _ q343) dX0_isHour_3 ?_
  have hPc := hP.sub (ws' := []) [] rfl
  have hDc := hD.sub (ws' := []) [] (by decide) rfl
  have hFc := va_free (wc := []) hD hS hA [] rfl
  refine va_calli (va_runS (As := [.long (Int32.toInt64 p0), .long (0 : Int64), .long (2 : Int64)]) (rest := []) ⟨hx, hb, hml, hown, hts⟩ (mt_X0_isIn l G  s.heap.size  (Int32.toInt64 p0) (0 : Int64) (2 : Int64) _ hw) (va_cwS 3 hts (lw_S q316 q317 q54 q318) rfl rfl rfl (by decide +kernel) ⟨Nat.le_of_ble_eq_true rfl, Nat.le_of_ble_eq_true rfl⟩) ⟨fun a U g mk q => by obtain ⟨q0, q1, qP, qK, qD⟩ := q; exact ⟨q0, q1, qP, qK.call, qD⟩, fun U hU hW => ⟨rfl, by rw [hU], by rw [hU]; exact hPc, hK.warm hW, hDc.weaken (fun _ _ _ _ => trivial)⟩⟩ rfl rfl hl.1 rfl (lv_room (Nat.le_of_ble_eq_true rfl)) dX0_isHour_6 ⟨Nat.le_of_ble_eq_true rfl, Nat.le_of_ble_eq_true rfl⟩) hS (fun q _ h => hFc q h) hFc (fun r_1 _ t H1 locs ht hvm hw hB hz1 hk1 hS => ?_)
  obtain ⟨hP1, hD1⟩ := hB
  rw [ht] at hP1
  obtain ⟨hP, hD⟩ := va_join (wr := []) (w1 := []) hP hD [] [] rfl rfl (by decide) (by decide) hk1 hFc hP1 hD1
  clear hPc hDc hFc hP1 hD1 hz1 hk1 hvm
  generalize H1 = H at hP hS ⊢
  have hP : va_P G.1 gCl [] H := hP
  have hD : va_D A [] := hD
  obtain ⟨hz, hw⟩ := hw
  have hP9 := hP
  have hD9 := hD
  exact W.zret (v := r_1) hx hb hr (z01.nar hz) (fun t ht hW => ⟨⟨r_1, (), rfl, hw, by rw [ht]; exact hP9, hD9⟩, hS.F ht⟩) hS.2.2 dX0_isHour_9
/-! BattleBench.stood(III)I -/
def wp_X0_stood (now : BT) (p1 : Int32) (p2 : Int32) (p3 : Int32) (Q : Int32 → (BT) → Prop) : Prop :=
  wp_X0_isMan now p1 (fun r_1 => (((r_1 = 0) → Q (-1 : Int32) now) ∧ (¬ (r_1 = 0) → wp_X0_isHour  p2 (fun r_3 => (((r_3 = 0) → Q (-1 : Int32) now) ∧ (¬ (r_3 = 0) → wp_X0_isIn  (Int32.toInt64 p3) (0 : Int64) (9 : Int64) (fun r_5 => ((¬ (r_5 = 0) → wp_X6_manAt now p2 p3 (fun r_7 => (((r_7 < 0) → wp_X6_placeOf now p1 p2 (fun r_9 => (vp_in (((3 : Int32) * p1) + p2) 18 ∧ ∀ f_11 : Nat → Int32, f_11 = upd (pl now) ((((3 : Int32) * p1) + p2)).toNatClampNeg p3 → Q r_9 ((kd now), f_11, (lf now), (se now), (mn now), (ma now), (yr now), (dw now))))) ∧ (¬ (r_7 < 0) → Q (-2 : Int32) now)))) ∧ ((r_5 = 0) → Q (-1 : Int32) now)))))))))
set_option maxHeartbeats 4000000 in
theorem mt_X0_stood (l : Launch) (G : GT) (h h_kinds h_now h_fault h_tape h_got h_failing h_past h_aside h_best h_tried h_kept h_keptPast h_sheets h_now_0 h_now_1 h_now_2 h_now_3 : Nat) (sz : Nat) (taped : Int32) (reads : Int32) (undoMany : Int32) (keptMany : Int32) (isKept : Int32) (now : BT) (p1 : Int32) (p2 : Int32) (p3 : Int32) (Q : Int32 → (BT) → Prop) (hw : wp_X0_stood now p1 p2 p3 Q) : Met l yX0_stood (ws_ yX0_stood cX0_stood 5 (some .int)) ({ frames := 2, cells := 0, slots := 0, locals := 46 } : Room) (va_Pc [.ref h, .int p1, .int p2, .int p3] (fun U => U.heap.size = sz ∧ va_P G.1 gCl [oc h 0 [.ref h_kinds, .ref h_now, .ref h_fault, .ref h_tape, .int taped, .int reads, .ref h_got, .ref h_failing, .ref h_past, .int undoMany, .ref h_aside, .ref h_best, .ref h_tried, .ref h_kept, .ref h_keptPast, .int keptMany, .int isKept, .ref h_sheets], oc h_now 6 [.ref h_now_0, .ref h_now_1, .ref h_now_2, .ref h_now_3, .int (mn now), .int (ma now), .int (yr now), .int (dw now)], ai G h_now_0 6 (kd now), ai G h_now_1 18 (pl now), ai G h_now_2 6 (lf now), ai G h_now_3 6 (se now)] U.heap ∧ gK G U ∧ va_D (fun _ => True) [oc h 0 [.ref h_kinds, .ref h_now, .ref h_fault, .ref h_tape, .int taped, .int reads, .ref h_got, .ref h_failing, .ref h_past, .int undoMany, .ref h_aside, .ref h_best, .ref h_tried, .ref h_kept, .ref h_keptPast, .int keptMany, .int isKept, .ref h_sheets], oc h_now 6 [.ref h_now_0, .ref h_now_1, .ref h_now_2, .ref h_now_3, .int (mn now), .int (ma now), .int (yr now), .int (dw now)], ai G h_now_0 6 (kd now), ai G h_now_1 18 (pl now), ai G h_now_2 6 (lf now), ai G h_now_3 6 (se now)])) ((fun A => (va_Qi (fun (r : Int32) (u : BT) => Q r u) (fun u t => va_P G.1 gCl [oc h 0 [.ref h_kinds, .ref h_now, .ref h_fault, .ref h_tape, .int taped, .int reads, .ref h_got, .ref h_failing, .ref h_past, .int undoMany, .ref h_aside, .ref h_best, .ref h_tried, .ref h_kept, .ref h_keptPast, .int keptMany, .int isKept, .ref h_sheets], oc h_now 6 [.ref h_now_0, .ref h_now_1, .ref h_now_2, .ref h_now_3, .int (mn u), .int (ma u), .int (yr u), .int (dw u)], ai G h_now_0 6 (kd u), ai G h_now_1 18 (pl u), ai G h_now_2 6 (lf u), ai G h_now_3 6 (se u)] t.heap ∧ va_D A [oc h 0 [.ref h_kinds, .ref h_now, .ref h_fault, .ref h_tape, .int taped, .int reads, .ref h_got, .ref h_failing, .ref h_past, .int undoMany, .ref h_aside, .ref h_best, .ref h_tried, .ref h_kept, .ref h_keptPast, .int keptMany, .int isKept, .ref h_sheets], oc h_now 6 [.ref h_now_0, .ref h_now_1, .ref h_now_2, .ref h_now_3, .int (mn u), .int (ma u), .int (yr u), .int (dw u)], ai G h_now_0 6 (kd u), ai G h_now_1 18 (pl u), ai G h_now_2 6 (lf u), ai G h_now_3 6 (se u)]) A)) (va_A [oc h 0 [.ref h_kinds, .ref h_now, .ref h_fault, .ref h_tape, .int taped, .int reads, .ref h_got, .ref h_failing, .ref h_past, .int undoMany, .ref h_aside, .ref h_best, .ref h_tried, .ref h_kept, .ref h_keptPast, .int keptMany, .int isKept, .ref h_sheets], oc h_now 6 [.ref h_now_0, .ref h_now_1, .ref h_now_2, .ref h_now_3, .int (mn now), .int (ma now), .int (yr now), .int (dw now)], ai G h_now_0 6 (kd now), ai G h_now_1 18 (pl now), ai G h_now_2 6 (lf now), ai G h_now_3 6 (se now)] sz)) 0 0 (va_A [oc h 0 [.ref h_kinds, .ref h_now, .ref h_fault, .ref h_tape, .int taped, .int reads, .ref h_got, .ref h_failing, .ref h_past, .int undoMany, .ref h_aside, .ref h_best, .ref h_tried, .ref h_kept, .ref h_keptPast, .int keptMany, .int isKept, .ref h_sheets], oc h_now 6 [.ref h_now_0, .ref h_now_1, .ref h_now_2, .ref h_now_3, .int (mn now), .int (ma now), .int (yr now), .int (dw now)], ai G h_now_0 6 (kd now), ai G h_now_1 18 (pl now), ai G h_now_2 6 (lf now), ai G h_now_3 6 (se now)] sz) := by
  refine Met.ofW (cc := cX0_stood) (maxL := 5) (ret := (some .int)) (by decide) rfl ?_
  intro p e s m args below meth c s₁ B hml hv
  obtain ⟨rfl, hsz, hP, hK, hD0⟩ := hv
  have hx := B.exec
  have hb := B.bytes
  have hr := B.returns
  have hts := atoms_spec (ws := (ws_ yX0_stood cX0_stood 5 (some .int))) B.pre
  have hts : ∀ w ∈ lw_all, w.before _ s = true := fun w h => hts w (List.mem_cons_of_mem _ h)
  have hown : s.vm.findClass RX0 = some m.cls := findClass_of_methodNamed B.named
  have hlocks := B.notSynchronized
  subst hsz
  have hD := hD0.self (sz := s.heap.size)
  generalize hAe : va_A [oc h 0 [.ref h_kinds, .ref h_now, .ref h_fault, .ref h_tape, .int taped, .int reads, .ref h_got, .ref h_failing, .ref h_past, .int undoMany, .ref h_aside, .ref h_best, .ref h_tried, .ref h_kept, .ref h_keptPast, .int keptMany, .int isKept, .ref h_sheets], oc h_now 6 [.ref h_now_0, .ref h_now_1, .ref h_now_2, .ref h_now_3, .int (mn now), .int (ma now), .int (yr now), .int (dw now)], ai G h_now_0 6 (kd now), ai G h_now_1 18 (pl now), ai G h_now_2 6 (lf now), ai G h_now_3 6 (se now)] s.heap.size = A at hD ⊢
  have hA : ∀ q : Nat, s.heap.size ≤ q → A q := fun q h => by rw [← hAe]; exact Or.inr h
  have hS : va_S A s.heap s.heap [] := va_S.rf
  have C : Cx p s m meth c cX0_stood 5 (some .int) RX0 ([.ref h, .int p1, .int p2, .int p3] : List Value).toArray G A := ⟨hx, hb, hr, hlocks, hml, hown, hts, hK, hA⟩
  have hl := lv_entry ([.ref h, .int p1, .int p2, .int p3]) (n := 5) (Nat.le_of_ble_eq_true rfl)
  rw [lg_entry_eq]
  generalize (lg_sl ([.ref h, .int p1, .int p2, .int p3]) ++ List.replicate (5 - (lg_sl ([.ref h, .int p1, .int p2, .int p3])).length) Slot.unset).toArray = ls at hl ⊢
  have hl : lv_has ls 5 [(0, .ref h), (1, .int p1), (2, .int p2), (3, .int p3)] := hl
  unfold wp_X0_stood at hw
  refine lv_aload_n hx hb dX0_stood_0 rfl (lv_at hl 0 rfl) ?_
  refine lv_iload_n hx hb dX0_stood_1 rfl (lv_at hl 1 rfl) ?_
  have hPc := hP.sub (ws' := [oc h 0 [.ref h_kinds, .ref h_now, .ref h_fault, .ref h_tape, .int taped, .int reads, .ref h_got, .ref h_failing, .ref h_past, .int undoMany, .ref h_aside, .ref h_best, .ref h_tried, .ref h_kept, .ref h_keptPast, .int keptMany, .int isKept, .ref h_sheets], oc h_now 6 [.ref h_now_0, .ref h_now_1, .ref h_now_2, .ref h_now_3, .int (mn now), .int (ma now), .int (yr now), .int (dw now)], ai G h_now_0 6 (kd now), ai G h_now_1 18 (pl now), ai G h_now_2 6 (lf now), ai G h_now_3 6 (se now)]) [0, 1, 2, 3, 4, 5] rfl
  have hDc := hD.sub (ws' := [oc h 0 [.ref h_kinds, .ref h_now, .ref h_fault, .ref h_tape, .int taped, .int reads, .ref h_got, .ref h_failing, .ref h_past, .int undoMany, .ref h_aside, .ref h_best, .ref h_tried, .ref h_kept, .ref h_keptPast, .int keptMany, .int isKept, .ref h_sheets], oc h_now 6 [.ref h_now_0, .ref h_now_1, .ref h_now_2, .ref h_now_3, .int (mn now), .int (ma now), .int (yr now), .int (dw now)], ai G h_now_0 6 (kd now), ai G h_now_1 18 (pl now), ai G h_now_2 6 (lf now), ai G h_now_3 6 (se now)]) [0, 1, 2, 3, 4, 5] (by decide) rfl
  have hFc := va_free (wc := [oc h 0 [.ref h_kinds, .ref h_now, .ref h_fault, .ref h_tape, .int taped, .int reads, .ref h_got, .ref h_failing, .ref h_past, .int undoMany, .ref h_aside, .ref h_best, .ref h_tried, .ref h_kept, .ref h_keptPast, .int keptMany, .int isKept, .ref h_sheets], oc h_now 6 [.ref h_now_0, .ref h_now_1, .ref h_now_2, .ref h_now_3, .int (mn now), .int (ma now), .int (yr now), .int (dw now)], ai G h_now_0 6 (kd now), ai G h_now_1 18 (pl now), ai G h_now_2 6 (lf now), ai G h_now_3 6 (se now)]) hD hS hA [0, 1, 2, 3, 4, 5] rfl
  refine va_calli (va_runV (As := [.int p1]) (rest := []) ⟨hx, hb, hml, hown, hts⟩ (mt_X0_isMan l G h h_kinds h_now h_fault h_tape h_got h_failing h_past h_aside h_best h_tried h_kept h_keptPast h_sheets h_now_0 h_now_1 h_now_2 h_now_3 s.heap.size taped reads undoMany keptMany isKept now p1 _ hw) (cwV 1 hts (lw_V q336 q338 qs2 q54 q339) rfl rfl rfl (by decide +kernel) ⟨Nat.le_of_ble_eq_true rfl, Nat.le_of_ble_eq_true rfl⟩) ⟨fun a U g mk q => by obtain ⟨q0, q1, qP, qK, qD⟩ := q; exact ⟨q0, q1, qP, qK.call, qD⟩, va_recv hK.1 hP (ci := 0) (q0 := 0) rfl rfl, fun U hU hW => ⟨rfl, by rw [hU], by rw [hU]; exact hPc, hK.warm hW, hDc.weaken (fun _ _ _ _ => trivial)⟩⟩ rfl rfl hl.1 rfl (lv_room (Nat.le_of_ble_eq_true rfl)) dX0_stood_2 ⟨Nat.le_of_ble_eq_true rfl, Nat.le_of_ble_eq_true rfl⟩) hS (fun q _ h => hFc q h) hFc (fun r_1 _ t H1 locs ht hvm hw hB hz1 hk1 hS => ?_)
  obtain ⟨hP1, hD1⟩ := hB
  rw [ht] at hP1
  obtain ⟨hP, hD⟩ := va_join (wr := []) (w1 := [oc h 0 [.ref h_kinds, .ref h_now, .ref h_fault, .ref h_tape, .int taped, .int reads, .ref h_got, .ref h_failing, .ref h_past, .int undoMany, .ref h_aside, .ref h_best, .ref h_tried, .ref h_kept, .ref h_keptPast, .int keptMany, .int isKept, .ref h_sheets], oc h_now 6 [.ref h_now_0, .ref h_now_1, .ref h_now_2, .ref h_now_3, .int (mn now), .int (ma now), .int (yr now), .int (dw now)], ai G h_now_0 6 (kd now), ai G h_now_1 18 (pl now), ai G h_now_2 6 (lf now), ai G h_now_3 6 (se now)]) hP hD [0, 1, 2, 3, 4, 5] [] rfl rfl (by decide) (by decide) hk1 hFc hP1 hD1
  clear hPc hDc hFc hP1 hD1 hz1 hk1 hvm
  generalize H1 = H at hP hS ⊢
  have hP : va_P G.1 gCl [oc h 0 [.ref h_kinds, .ref h_now, .ref h_fault, .ref h_tape, .int taped, .int reads, .ref h_got, .ref h_failing, .ref h_past, .int undoMany, .ref h_aside, .ref h_best, .ref h_tried, .ref h_kept, .ref h_keptPast, .int keptMany, .int isKept, .ref h_sheets], oc h_now 6 [.ref h_now_0, .ref h_now_1, .ref h_now_2, .ref h_now_3, .int (mn now), .int (ma now), .int (yr now), .int (dw now)], ai G h_now_0 6 (kd now), ai G h_now_1 18 (pl now), ai G h_now_2 6 (lf now), ai G h_now_3 6 (se now)] H := hP
  have hD : va_D A [oc h 0 [.ref h_kinds, .ref h_now, .ref h_fault, .ref h_tape, .int taped, .int reads, .ref h_got, .ref h_failing, .ref h_past, .int undoMany, .ref h_aside, .ref h_best, .ref h_tried, .ref h_kept, .ref h_keptPast, .int keptMany, .int isKept, .ref h_sheets], oc h_now 6 [.ref h_now_0, .ref h_now_1, .ref h_now_2, .ref h_now_3, .int (mn now), .int (ma now), .int (yr now), .int (dw now)], ai G h_now_0 6 (kd now), ai G h_now_1 18 (pl now), ai G h_now_2 6 (lf now), ai G h_now_3 6 (se now)] := hD
  refine lv_if_eq (tgt := 27) hx hb dX0_stood_5 (by decide) (fun c_2 => ?_) (fun c_2 => ?_)
  · replace hw := hw.1 c_2
    refine lv_iconst (v := (-1 : Int32)) hx hb dX0_stood_27 (by decide) ?_
    have hP9 := hP
    have hD9 := hD
    exact W.iret (v := (-1 : Int32)) hx hb hr (fun t ht hW => ⟨⟨(-1 : Int32), now, rfl, hw, by rw [ht]; exact hP9, hD9⟩, hS.F ht⟩) hS.2.2 dX0_stood_28
  · replace hw := hw.2 c_2
    refine lv_iload_n hx hb dX0_stood_8 rfl (lv_at hl 2 rfl) ?_
    have hPc := hP.sub (ws' := []) [] rfl
    have hDc := hD.sub (ws' := []) [] (by decide) rfl
    have hFc := va_free (wc := []) hD hS hA [] rfl
    refine va_calli (va_runS (As := [.int p2]) (rest := []) ⟨hx, hb, hml, hown, hts⟩ (mt_X0_isHour l G  H.size  p2 _ hw) (va_cwS 1 hts (lw_S q340 q341 q54 q342) rfl rfl rfl (by decide +kernel) ⟨Nat.le_of_ble_eq_true rfl, Nat.le_of_ble_eq_true rfl⟩) ⟨fun a U g mk q => by obtain ⟨q0, q1, qP, qK, qD⟩ := q; exact ⟨q0, q1, qP, qK.call, qD⟩, fun U hU hW => ⟨rfl, by rw [hU], by rw [hU]; exact hPc, hK.warm hW, hDc.weaken (fun _ _ _ _ => trivial)⟩⟩ rfl rfl hl.1 rfl (lv_room (Nat.le_of_ble_eq_true rfl)) dX0_stood_9 ⟨Nat.le_of_ble_eq_true rfl, Nat.le_of_ble_eq_true rfl⟩) hS (fun q _ h => hFc q h) hFc (fun r_3 _ t H1 locs ht hvm hw hB hz1 hk1 hS => ?_)
    obtain ⟨hP1, hD1⟩ := hB
    rw [ht] at hP1
    obtain ⟨hP, hD⟩ := va_join (wr := [oc h 0 [.ref h_kinds, .ref h_now, .ref h_fault, .ref h_tape, .int taped, .int reads, .ref h_got, .ref h_failing, .ref h_past, .int undoMany, .ref h_aside, .ref h_best, .ref h_tried, .ref h_kept, .ref h_keptPast, .int keptMany, .int isKept, .ref h_sheets], oc h_now 6 [.ref h_now_0, .ref h_now_1, .ref h_now_2, .ref h_now_3, .int (mn now), .int (ma now), .int (yr now), .int (dw now)], ai G h_now_0 6 (kd now), ai G h_now_1 18 (pl now), ai G h_now_2 6 (lf now), ai G h_now_3 6 (se now)]) (w1 := []) hP hD [] [0, 1, 2, 3, 4, 5] rfl rfl (by decide) (by decide) hk1 hFc hP1 hD1
    clear hPc hDc hFc hP1 hD1 hz1 hk1 hvm
    generalize H1 = H at hP hS ⊢
    have hP : va_P G.1 gCl [oc h 0 [.ref h_kinds, .ref h_now, .ref h_fault, .ref h_tape, .int taped, .int reads, .ref h_got, .ref h_failing, .ref h_past, .int undoMany, .ref h_aside, .ref h_best, .ref h_tried, .ref h_kept, .ref h_keptPast, .int keptMany, .int isKept, .ref h_sheets], oc h_now 6 [.ref h_now_0, .ref h_now_1, .ref h_now_2, .ref h_now_3, .int (mn now), .int (ma now), .int (yr now), .int (dw now)], ai G h_now_0 6 (kd now), ai G h_now_1 18 (pl now), ai G h_now_2 6 (lf now), ai G h_now_3 6 (se now)] H := hP
    have hD : va_D A [oc h 0 [.ref h_kinds, .ref h_now, .ref h_fault, .ref h_tape, .int taped, .int reads, .ref h_got, .ref h_failing, .ref h_past, .int undoMany, .ref h_aside, .ref h_best, .ref h_tried, .ref h_kept, .ref h_keptPast, .int keptMany, .int isKept, .ref h_sheets], oc h_now 6 [.ref h_now_0, .ref h_now_1, .ref h_now_2, .ref h_now_3, .int (mn now), .int (ma now), .int (yr now), .int (dw now)], ai G h_now_0 6 (kd now), ai G h_now_1 18 (pl now), ai G h_now_2 6 (lf now), ai G h_now_3 6 (se now)] := hD
    refine lv_if_eq (tgt := 27) hx hb dX0_stood_12 (by decide) (fun c_4 => ?_) (fun c_4 => ?_)
    · replace hw := hw.1 c_4
      refine lv_iconst (v := (-1 : Int32)) hx hb dX0_stood_27 (by decide) ?_
      have hP9 := hP
      have hD9 := hD
      exact W.iret (v := (-1 : Int32)) hx hb hr (fun t ht hW => ⟨⟨(-1 : Int32), now, rfl, hw, by rw [ht]; exact hP9, hD9⟩, hS.F ht⟩) hS.2.2 dX0_stood_28
    · replace hw := hw.2 c_4
      refine lv_iload_n hx hb dX0_stood_15 rfl (lv_at hl 3 rfl) ?_
      refine lv_i2l hx hb dX0_stood_16 rfl ?_
      refine lv_lconst (v := (0 : Int64)) hx hb dX0_stood_17 (by decide) ?_
      refine lv_ldc2 (v := (9 : Int64)) hx hb hown (hts _ q344) dX0_stood_18 ?_
      have hPc := hP.sub (ws' := []) [] rfl
      have hDc := hD.sub (ws' := []) [] (by decide) rfl
      have hFc := va_free (wc := []) hD hS hA [] rfl
      refine va_calli (va_runS (As := [.long (Int32.toInt64 p3), .long (0 : Int64), .long (9 : Int64)]) (rest := []) ⟨hx, hb, hml, hown, hts⟩ (mt_X0_isIn l G  H.size  (Int32.toInt64 p3) (0 : Int64) (9 : Int64) _ hw) (va_cwS 3 hts (lw_S q316 q317 q54 q318) rfl rfl rfl (by decide +kernel) ⟨Nat.le_of_ble_eq_true rfl, Nat.le_of_ble_eq_true rfl⟩) ⟨fun a U g mk q => by obtain ⟨q0, q1, qP, qK, qD⟩ := q; exact ⟨q0, q1, qP, qK.call, qD⟩, fun U hU hW => ⟨rfl, by rw [hU], by rw [hU]; exact hPc, hK.warm hW, hDc.weaken (fun _ _ _ _ => trivial)⟩⟩ rfl rfl hl.1 rfl (lv_room (Nat.le_of_ble_eq_true rfl)) dX0_stood_21 ⟨Nat.le_of_ble_eq_true rfl, Nat.le_of_ble_eq_true rfl⟩) hS (fun q _ h => hFc q h) hFc (fun r_5 _ t H1 locs ht hvm hw hB hz1 hk1 hS => ?_)
      obtain ⟨hP1, hD1⟩ := hB
      rw [ht] at hP1
      obtain ⟨hP, hD⟩ := va_join (wr := [oc h 0 [.ref h_kinds, .ref h_now, .ref h_fault, .ref h_tape, .int taped, .int reads, .ref h_got, .ref h_failing, .ref h_past, .int undoMany, .ref h_aside, .ref h_best, .ref h_tried, .ref h_kept, .ref h_keptPast, .int keptMany, .int isKept, .ref h_sheets], oc h_now 6 [.ref h_now_0, .ref h_now_1, .ref h_now_2, .ref h_now_3, .int (mn now), .int (ma now), .int (yr now), .int (dw now)], ai G h_now_0 6 (kd now), ai G h_now_1 18 (pl now), ai G h_now_2 6 (lf now), ai G h_now_3 6 (se now)]) (w1 := []) hP hD [] [0, 1, 2, 3, 4, 5] rfl rfl (by decide) (by decide) hk1 hFc hP1 hD1
      clear hPc hDc hFc hP1 hD1 hz1 hk1 hvm
      generalize H1 = H at hP hS ⊢
      have hP : va_P G.1 gCl [oc h 0 [.ref h_kinds, .ref h_now, .ref h_fault, .ref h_tape, .int taped, .int reads, .ref h_got, .ref h_failing, .ref h_past, .int undoMany, .ref h_aside, .ref h_best, .ref h_tried, .ref h_kept, .ref h_keptPast, .int keptMany, .int isKept, .ref h_sheets], oc h_now 6 [.ref h_now_0, .ref h_now_1, .ref h_now_2, .ref h_now_3, .int (mn now), .int (ma now), .int (yr now), .int (dw now)], ai G h_now_0 6 (kd now), ai G h_now_1 18 (pl now), ai G h_now_2 6 (lf now), ai G h_now_3 6 (se now)] H := hP
      have hD : va_D A [oc h 0 [.ref h_kinds, .ref h_now, .ref h_fault, .ref h_tape, .int taped, .int reads, .ref h_got, .ref h_failing, .ref h_past, .int undoMany, .ref h_aside, .ref h_best, .ref h_tried, .ref h_kept, .ref h_keptPast, .int keptMany, .int isKept, .ref h_sheets], oc h_now 6 [.ref h_now_0, .ref h_now_1, .ref h_now_2, .ref h_now_3, .int (mn now), .int (ma now), .int (yr now), .int (dw now)], ai G h_now_0 6 (kd now), ai G h_now_1 18 (pl now), ai G h_now_2 6 (lf now), ai G h_now_3 6 (se now)] := hD
      refine lv_if_ne (tgt := 29) hx hb dX0_stood_24 (by decide) (fun c_6 => ?_) (fun c_6 => ?_)
      · replace hw := hw.1 c_6
        refine lv_aload_n hx hb dX0_stood_29 rfl (lv_at hl 0 rfl) ?_
        refine va_get (D := G.1) (ci := 0) (v := .ref h_now) (C := RX0) (T := TX0) (N := 18) hx hb hts in_X0 hown hK.1 hP 0 rfl rfl 1 (by decide) (hts _ q257) (fun _ h9 => h9) rfl dX0_stood_30 ?_
        refine lv_iload_n hx hb dX0_stood_33 rfl (lv_at hl 2 rfl) ?_
        refine lv_iload_n hx hb dX0_stood_34 rfl (lv_at hl 3 rfl) ?_
        have hPc := hP.sub (ws' := [oc h_now 6 [.ref h_now_0, .ref h_now_1, .ref h_now_2, .ref h_now_3, .int (mn now), .int (ma now), .int (yr now), .int (dw now)], ai G h_now_0 6 (kd now), ai G h_now_1 18 (pl now), ai G h_now_2 6 (lf now), ai G h_now_3 6 (se now)]) [1, 2, 3, 4, 5] rfl
        have hDc := hD.sub (ws' := [oc h_now 6 [.ref h_now_0, .ref h_now_1, .ref h_now_2, .ref h_now_3, .int (mn now), .int (ma now), .int (yr now), .int (dw now)], ai G h_now_0 6 (kd now), ai G h_now_1 18 (pl now), ai G h_now_2 6 (lf now), ai G h_now_3 6 (se now)]) [1, 2, 3, 4, 5] (by decide) rfl
        have hFc := va_free (wc := [oc h_now 6 [.ref h_now_0, .ref h_now_1, .ref h_now_2, .ref h_now_3, .int (mn now), .int (ma now), .int (yr now), .int (dw now)], ai G h_now_0 6 (kd now), ai G h_now_1 18 (pl now), ai G h_now_2 6 (lf now), ai G h_now_3 6 (se now)]) hD hS hA [1, 2, 3, 4, 5] rfl
        refine va_calli (va_runV (As := [.int p2, .int p3]) (rest := []) ⟨hx, hb, hml, hown, hts⟩ (mt_X6_manAt l G h_now h_now_0 h_now_1 h_now_2 h_now_3 H.size now p2 p3 _ hw) (cwV 2 hts (lw_V q320 q321 q322 q60 q323) rfl rfl rfl (by decide +kernel) ⟨Nat.le_of_ble_eq_true rfl, Nat.le_of_ble_eq_true rfl⟩) ⟨fun a U g mk q => by obtain ⟨q0, q1, qP, qK, qD⟩ := q; exact ⟨q0, q1, qP, qK.call, qD⟩, va_recv hK.1 hP (ci := 6) (q0 := 1) rfl rfl, fun U hU hW => ⟨rfl, by rw [hU], by rw [hU]; exact hPc, hK.warm hW, hDc.weaken (fun _ _ _ _ => trivial)⟩⟩ rfl rfl hl.1 rfl (lv_room (Nat.le_of_ble_eq_true rfl)) dX0_stood_35 ⟨Nat.le_of_ble_eq_true rfl, Nat.le_of_ble_eq_true rfl⟩) hS (fun q _ h => hFc q h) hFc (fun r_7 _ t H1 locs ht hvm hw hB hz1 hk1 hS => ?_)
        obtain ⟨hP1, hD1⟩ := hB
        rw [ht] at hP1
        obtain ⟨hP, hD⟩ := va_join (wr := [oc h 0 [.ref h_kinds, .ref h_now, .ref h_fault, .ref h_tape, .int taped, .int reads, .ref h_got, .ref h_failing, .ref h_past, .int undoMany, .ref h_aside, .ref h_best, .ref h_tried, .ref h_kept, .ref h_keptPast, .int keptMany, .int isKept, .ref h_sheets]]) (w1 := [oc h_now 6 [.ref h_now_0, .ref h_now_1, .ref h_now_2, .ref h_now_3, .int (mn now), .int (ma now), .int (yr now), .int (dw now)], ai G h_now_0 6 (kd now), ai G h_now_1 18 (pl now), ai G h_now_2 6 (lf now), ai G h_now_3 6 (se now)]) hP hD [1, 2, 3, 4, 5] [0] rfl rfl (by decide) (by decide) hk1 hFc hP1 hD1
        clear hPc hDc hFc hP1 hD1 hz1 hk1 hvm
        generalize H1 = H at hP hS ⊢
        have hP : va_P G.1 gCl [oc h 0 [.ref h_kinds, .ref h_now, .ref h_fault, .ref h_tape, .int taped, .int reads, .ref h_got, .ref h_failing, .ref h_past, .int undoMany, .ref h_aside, .ref h_best, .ref h_tried, .ref h_kept, .ref h_keptPast, .int keptMany, .int isKept, .ref h_sheets], oc h_now 6 [.ref h_now_0, .ref h_now_1, .ref h_now_2, .ref h_now_3, .int (mn now), .int (ma now), .int (yr now), .int (dw now)], ai G h_now_0 6 (kd now), ai G h_now_1 18 (pl now), ai G h_now_2 6 (lf now), ai G h_now_3 6 (se now)] H := hP
        have hD : va_D A [oc h 0 [.ref h_kinds, .ref h_now, .ref h_fault, .ref h_tape, .int taped, .int reads, .ref h_got, .ref h_failing, .ref h_past, .int undoMany, .ref h_aside, .ref h_best, .ref h_tried, .ref h_kept, .ref h_keptPast, .int keptMany, .int isKept, .ref h_sheets], oc h_now 6 [.ref h_now_0, .ref h_now_1, .ref h_now_2, .ref h_now_3, .int (mn now), .int (ma now), .int (yr now), .int (dw now)], ai G h_now_0 6 (kd now), ai G h_now_1 18 (pl now), ai G h_now_2 6 (lf now), ai G h_now_3 6 (se now)] := hD
        refine lv_if_lt (tgt := 44) hx hb dX0_stood_38 (by decide) (fun c_8 => ?_) (fun c_8 => ?_)
        · replace hw := hw.1 c_8
          refine lv_aload_n hx hb dX0_stood_44 rfl (lv_at hl 0 rfl) ?_
          refine va_get (D := G.1) (ci := 0) (v := .ref h_now) (C := RX0) (T := TX0) (N := 18) hx hb hts in_X0 hown hK.1 hP 0 rfl rfl 1 (by decide) (hts _ q257) (fun _ h9 => h9) rfl dX0_stood_45 ?_
          refine lv_iload_n hx hb dX0_stood_48 rfl (lv_at hl 1 rfl) ?_
          refine lv_iload_n hx hb dX0_stood_49 rfl (lv_at hl 2 rfl) ?_
          have hPc := hP.sub (ws' := [oc h_now 6 [.ref h_now_0, .ref h_now_1, .ref h_now_2, .ref h_now_3, .int (mn now), .int (ma now), .int (yr now), .int (dw now)], ai G h_now_0 6 (kd now), ai G h_now_1 18 (pl now), ai G h_now_2 6 (lf now), ai G h_now_3 6 (se now)]) [1, 2, 3, 4, 5] rfl
          have hDc := hD.sub (ws' := [oc h_now 6 [.ref h_now_0, .ref h_now_1, .ref h_now_2, .ref h_now_3, .int (mn now), .int (ma now), .int (yr now), .int (dw now)], ai G h_now_0 6 (kd now), ai G h_now_1 18 (pl now), ai G h_now_2 6 (lf now), ai G h_now_3 6 (se now)]) [1, 2, 3, 4, 5] (by decide) rfl
          have hFc := va_free (wc := [oc h_now 6 [.ref h_now_0, .ref h_now_1, .ref h_now_2, .ref h_now_3, .int (mn now), .int (ma now), .int (yr now), .int (dw now)], ai G h_now_0 6 (kd now), ai G h_now_1 18 (pl now), ai G h_now_2 6 (lf now), ai G h_now_3 6 (se now)]) hD hS hA [1, 2, 3, 4, 5] rfl
          refine va_calli (va_runV (As := [.int p1, .int p2]) (rest := []) ⟨hx, hb, hml, hown, hts⟩ (mt_X6_placeOf l G h_now h_now_0 h_now_1 h_now_2 h_now_3 H.size now p1 p2 _ hw) (cwV 2 hts (lw_V q345 q325 q326 q60 q327) rfl rfl rfl (by decide +kernel) ⟨Nat.le_of_ble_eq_true rfl, Nat.le_of_ble_eq_true rfl⟩) ⟨fun a U g mk q => by obtain ⟨q0, q1, qP, qK, qD⟩ := q; exact ⟨q0, q1, qP, qK.call, qD⟩, va_recv hK.1 hP (ci := 6) (q0 := 1) rfl rfl, fun U hU hW => ⟨rfl, by rw [hU], by rw [hU]; exact hPc, hK.warm hW, hDc.weaken (fun _ _ _ _ => trivial)⟩⟩ rfl rfl hl.1 rfl (lv_room (Nat.le_of_ble_eq_true rfl)) dX0_stood_50 ⟨Nat.le_of_ble_eq_true rfl, Nat.le_of_ble_eq_true rfl⟩) hS (fun q _ h => hFc q h) hFc (fun r_9 _ t H1 locs ht hvm hw hB hz1 hk1 hS => ?_)
          obtain ⟨hP1, hD1⟩ := hB
          rw [ht] at hP1
          obtain ⟨hP, hD⟩ := va_join (wr := [oc h 0 [.ref h_kinds, .ref h_now, .ref h_fault, .ref h_tape, .int taped, .int reads, .ref h_got, .ref h_failing, .ref h_past, .int undoMany, .ref h_aside, .ref h_best, .ref h_tried, .ref h_kept, .ref h_keptPast, .int keptMany, .int isKept, .ref h_sheets]]) (w1 := [oc h_now 6 [.ref h_now_0, .ref h_now_1, .ref h_now_2, .ref h_now_3, .int (mn now), .int (ma now), .int (yr now), .int (dw now)], ai G h_now_0 6 (kd now), ai G h_now_1 18 (pl now), ai G h_now_2 6 (lf now), ai G h_now_3 6 (se now)]) hP hD [1, 2, 3, 4, 5] [0] rfl rfl (by decide) (by decide) hk1 hFc hP1 hD1
          clear hPc hDc hFc hP1 hD1 hz1 hk1 hvm
          generalize H1 = H at hP hS ⊢
          have hP : va_P G.1 gCl [oc h 0 [.ref h_kinds, .ref h_now, .ref h_fault, .ref h_tape, .int taped, .int reads, .ref h_got, .ref h_failing, .ref h_past, .int undoMany, .ref h_aside, .ref h_best, .ref h_tried, .ref h_kept, .ref h_keptPast, .int keptMany, .int isKept, .ref h_sheets], oc h_now 6 [.ref h_now_0, .ref h_now_1, .ref h_now_2, .ref h_now_3, .int (mn now), .int (ma now), .int (yr now), .int (dw now)], ai G h_now_0 6 (kd now), ai G h_now_1 18 (pl now), ai G h_now_2 6 (lf now), ai G h_now_3 6 (se now)] H := hP
          have hD : va_D A [oc h 0 [.ref h_kinds, .ref h_now, .ref h_fault, .ref h_tape, .int taped, .int reads, .ref h_got, .ref h_failing, .ref h_past, .int undoMany, .ref h_aside, .ref h_best, .ref h_tried, .ref h_kept, .ref h_keptPast, .int keptMany, .int isKept, .ref h_sheets], oc h_now 6 [.ref h_now_0, .ref h_now_1, .ref h_now_2, .ref h_now_3, .int (mn now), .int (ma now), .int (yr now), .int (dw now)], ai G h_now_0 6 (kd now), ai G h_now_1 18 (pl now), ai G h_now_2 6 (lf now), ai G h_now_3 6 (se now)] := hD
          refine lv_istore (lv' := [(4, .int r_9), (0, .ref h), (1, .int p1), (2, .int p2), (3, .int p3)]) hx hb dX0_stood_53 hl (by decide) rfl (fun ls hl => ?_)
          refine lv_aload_n hx hb dX0_stood_55 rfl (lv_at hl 1 rfl) ?_
          refine va_get (D := G.1) (ci := 0) (v := .ref h_now) (C := RX0) (T := TX0) (N := 18) hx hb hts in_X0 hown hK.1 hP 0 rfl rfl 1 (by decide) (hts _ q257) (fun _ h9 => h9) rfl dX0_stood_56 ?_
          refine va_getN (D := G.1) (ci := 6) (v := .ref h_now_1) (C := RX6) (T := TX6) (N := 8) hx hb hts in_X6 hown hK.1 hP 1 rfl rfl 1 (by decide) (hK.n q130 rfl) (fun _ h9 => h9) rfl dX0_stood_59 ?_
          refine lv_iconst (v := (3 : Int32)) hx hb dX0_stood_62 (by decide) ?_
          refine lv_iload_n hx hb dX0_stood_63 rfl (lv_at hl 2 rfl) ?_
          refine lv_imul hx hb dX0_stood_64 ?_
          refine lv_iload_n hx hb dX0_stood_65 rfl (lv_at hl 3 rfl) ?_
          refine lv_iadd hx hb dX0_stood_66 ?_
          refine lv_iload_n hx hb dX0_stood_67 rfl (lv_at hl 4 rfl) ?_
          obtain ⟨i_10, hw⟩ := hw
          refine z_iast hx hb hK.1 hP hD hS 3 0 rfl rfl i_10 dX0_stood_68 (k := ((((3 : Int32) * p1) + p2)).toNatClampNeg) rfl (fun f_11 ef_11 H locs hP hD hS => ?_)
          replace hw := hw f_11 ef_11
          have hP : va_P G.1 gCl [oc h 0 [.ref h_kinds, .ref h_now, .ref h_fault, .ref h_tape, .int taped, .int reads, .ref h_got, .ref h_failing, .ref h_past, .int undoMany, .ref h_aside, .ref h_best, .ref h_tried, .ref h_kept, .ref h_keptPast, .int keptMany, .int isKept, .ref h_sheets], oc h_now 6 [.ref h_now_0, .ref h_now_1, .ref h_now_2, .ref h_now_3, .int (mn now), .int (ma now), .int (yr now), .int (dw now)], ai G h_now_0 6 (kd now), ai G h_now_1 18 f_11, ai G h_now_2 6 (lf now), ai G h_now_3 6 (se now)] H := hP
          have hD : va_D A [oc h 0 [.ref h_kinds, .ref h_now, .ref h_fault, .ref h_tape, .int taped, .int reads, .ref h_got, .ref h_failing, .ref h_past, .int undoMany, .ref h_aside, .ref h_best, .ref h_tried, .ref h_kept, .ref h_keptPast, .int keptMany, .int isKept, .ref h_sheets], oc h_now 6 [.ref h_now_0, .ref h_now_1, .ref h_now_2, .ref h_now_3, .int (mn now), .int (ma now), .int (yr now), .int (dw now)], ai G h_now_0 6 (kd now), ai G h_now_1 18 f_11, ai G h_now_2 6 (lf now), ai G h_now_3 6 (se now)] := hD
          refine lv_iload hx hb dX0_stood_69 (lv_at hl 0 rfl) ?_
          have hP9 := hP
          have hD9 := hD
          exact W.iret (v := r_9) hx hb hr (fun t ht hW => ⟨⟨r_9, ((kd now), f_11, (lf now), (se now), (mn now), (ma now), (yr now), (dw now)), rfl, hw, by rw [ht]; exact hP9, hD9⟩, hS.F ht⟩) hS.2.2 dX0_stood_71
        · replace hw := hw.2 c_8
          refine lv_bipush (v := (-2 : Int32)) hx hb dX0_stood_41 (by decide) ?_
          have hP9 := hP
          have hD9 := hD
          exact W.iret (v := (-2 : Int32)) hx hb hr (fun t ht hW => ⟨⟨(-2 : Int32), now, rfl, hw, by rw [ht]; exact hP9, hD9⟩, hS.F ht⟩) hS.2.2 dX0_stood_43
      · replace hw := hw.2 c_6
        refine lv_iconst (v := (-1 : Int32)) hx hb dX0_stood_27 (by decide) ?_
        have hP9 := hP
        have hD9 := hD
        exact W.iret (v := (-1 : Int32)) hx hb hr (fun t ht hW => ⟨⟨(-1 : Int32), now, rfl, hw, by rw [ht]; exact hP9, hD9⟩, hS.F ht⟩) hS.2.2 dX0_stood_28
/-! BattleBench.failsOf(I)I -/
def wp_X0_failsOf (now : BT) (p1 : Int32) (Q : Int32 → Prop) : Prop :=
  wp_X6_seatOf now p1 (fun r_1 => (((0 ≤ r_1) → (vp_in p1 6 ∧ (vp_in ((kd now) p1.toNatClampNeg) 5 ∧ (((kd now) p1.toNatClampNeg) = (0 : Int32) → wp_X1_fails  p1 (fun r_6 => Q r_6)) ∧ (((kd now) p1.toNatClampNeg) = (1 : Int32) → wp_X2_fails now p1 (fun r_8 => Q r_8)) ∧ (((kd now) p1.toNatClampNeg) = (2 : Int32) → wp_X3_fails  p1 (fun r_10 => Q r_10)) ∧ (((kd now) p1.toNatClampNeg) = (3 : Int32) → wp_X4_fails now p1 (fun r_12 => Q r_12)) ∧ (((kd now) p1.toNatClampNeg) = (4 : Int32) → wp_X5_fails now p1 (fun r_14 => Q r_14))))) ∧ (¬ (0 ≤ r_1) → Q (0 : Int32))))
set_option maxHeartbeats 4000000 in
theorem mt_X0_failsOf (l : Launch) (G : GT) (h h_kinds h_now h_fault h_tape h_got h_failing h_past h_aside h_best h_tried h_kept h_keptPast h_sheets h_kinds_0 h_kinds_1 h_kinds_2 h_kinds_3 h_kinds_4 h_now_0 h_now_1 h_now_2 h_now_3 : Nat) (sz : Nat) (taped : Int32) (reads : Int32) (undoMany : Int32) (keptMany : Int32) (isKept : Int32) (now : BT) (p1 : Int32) (Q : Int32 → Prop) (hw : wp_X0_failsOf now p1 Q) : Met l yX0_failsOf (ws_ yX0_failsOf cX0_failsOf 2 (some .int)) ({ frames := 6, cells := 0, slots := 0, locals := 160 } : Room) (va_Pc [.ref h, .int p1] (fun U => U.heap.size = sz ∧ va_P G.1 gCl [oc h 0 [.ref h_kinds, .ref h_now, .ref h_fault, .ref h_tape, .int taped, .int reads, .ref h_got, .ref h_failing, .ref h_past, .int undoMany, .ref h_aside, .ref h_best, .ref h_tried, .ref h_kept, .ref h_keptPast, .int keptMany, .int isKept, .ref h_sheets], ar G h_kinds 5 5 [h_kinds_0, h_kinds_1, h_kinds_2, h_kinds_3, h_kinds_4], oc h_kinds_0 1 [], oc h_kinds_1 2 [], oc h_kinds_2 3 [], oc h_kinds_3 4 [], oc h_kinds_4 5 [], oc h_now 6 [.ref h_now_0, .ref h_now_1, .ref h_now_2, .ref h_now_3, .int (mn now), .int (ma now), .int (yr now), .int (dw now)], ai G h_now_0 6 (kd now), ai G h_now_1 18 (pl now), ai G h_now_2 6 (lf now), ai G h_now_3 6 (se now)] U.heap ∧ gK G U ∧ va_D (fun _ => True) [oc h 0 [.ref h_kinds, .ref h_now, .ref h_fault, .ref h_tape, .int taped, .int reads, .ref h_got, .ref h_failing, .ref h_past, .int undoMany, .ref h_aside, .ref h_best, .ref h_tried, .ref h_kept, .ref h_keptPast, .int keptMany, .int isKept, .ref h_sheets], ar G h_kinds 5 5 [h_kinds_0, h_kinds_1, h_kinds_2, h_kinds_3, h_kinds_4], oc h_kinds_0 1 [], oc h_kinds_1 2 [], oc h_kinds_2 3 [], oc h_kinds_3 4 [], oc h_kinds_4 5 [], oc h_now 6 [.ref h_now_0, .ref h_now_1, .ref h_now_2, .ref h_now_3, .int (mn now), .int (ma now), .int (yr now), .int (dw now)], ai G h_now_0 6 (kd now), ai G h_now_1 18 (pl now), ai G h_now_2 6 (lf now), ai G h_now_3 6 (se now)])) ((fun A => (va_Qi (fun (r : Int32) (u : Unit) => Q r ) (fun u t => va_P G.1 gCl [oc h 0 [.ref h_kinds, .ref h_now, .ref h_fault, .ref h_tape, .int taped, .int reads, .ref h_got, .ref h_failing, .ref h_past, .int undoMany, .ref h_aside, .ref h_best, .ref h_tried, .ref h_kept, .ref h_keptPast, .int keptMany, .int isKept, .ref h_sheets], ar G h_kinds 5 5 [h_kinds_0, h_kinds_1, h_kinds_2, h_kinds_3, h_kinds_4], oc h_kinds_0 1 [], oc h_kinds_1 2 [], oc h_kinds_2 3 [], oc h_kinds_3 4 [], oc h_kinds_4 5 [], oc h_now 6 [.ref h_now_0, .ref h_now_1, .ref h_now_2, .ref h_now_3, .int (mn now), .int (ma now), .int (yr now), .int (dw now)], ai G h_now_0 6 (kd now), ai G h_now_1 18 (pl now), ai G h_now_2 6 (lf now), ai G h_now_3 6 (se now)] t.heap ∧ va_D A [oc h 0 [.ref h_kinds, .ref h_now, .ref h_fault, .ref h_tape, .int taped, .int reads, .ref h_got, .ref h_failing, .ref h_past, .int undoMany, .ref h_aside, .ref h_best, .ref h_tried, .ref h_kept, .ref h_keptPast, .int keptMany, .int isKept, .ref h_sheets], ar G h_kinds 5 5 [h_kinds_0, h_kinds_1, h_kinds_2, h_kinds_3, h_kinds_4], oc h_kinds_0 1 [], oc h_kinds_1 2 [], oc h_kinds_2 3 [], oc h_kinds_3 4 [], oc h_kinds_4 5 [], oc h_now 6 [.ref h_now_0, .ref h_now_1, .ref h_now_2, .ref h_now_3, .int (mn now), .int (ma now), .int (yr now), .int (dw now)], ai G h_now_0 6 (kd now), ai G h_now_1 18 (pl now), ai G h_now_2 6 (lf now), ai G h_now_3 6 (se now)]) A)) (va_A [oc h 0 [.ref h_kinds, .ref h_now, .ref h_fault, .ref h_tape, .int taped, .int reads, .ref h_got, .ref h_failing, .ref h_past, .int undoMany, .ref h_aside, .ref h_best, .ref h_tried, .ref h_kept, .ref h_keptPast, .int keptMany, .int isKept, .ref h_sheets], ar G h_kinds 5 5 [h_kinds_0, h_kinds_1, h_kinds_2, h_kinds_3, h_kinds_4], oc h_kinds_0 1 [], oc h_kinds_1 2 [], oc h_kinds_2 3 [], oc h_kinds_3 4 [], oc h_kinds_4 5 [], oc h_now 6 [.ref h_now_0, .ref h_now_1, .ref h_now_2, .ref h_now_3, .int (mn now), .int (ma now), .int (yr now), .int (dw now)], ai G h_now_0 6 (kd now), ai G h_now_1 18 (pl now), ai G h_now_2 6 (lf now), ai G h_now_3 6 (se now)] sz)) 0 0 (va_A [oc h 0 [.ref h_kinds, .ref h_now, .ref h_fault, .ref h_tape, .int taped, .int reads, .ref h_got, .ref h_failing, .ref h_past, .int undoMany, .ref h_aside, .ref h_best, .ref h_tried, .ref h_kept, .ref h_keptPast, .int keptMany, .int isKept, .ref h_sheets], ar G h_kinds 5 5 [h_kinds_0, h_kinds_1, h_kinds_2, h_kinds_3, h_kinds_4], oc h_kinds_0 1 [], oc h_kinds_1 2 [], oc h_kinds_2 3 [], oc h_kinds_3 4 [], oc h_kinds_4 5 [], oc h_now 6 [.ref h_now_0, .ref h_now_1, .ref h_now_2, .ref h_now_3, .int (mn now), .int (ma now), .int (yr now), .int (dw now)], ai G h_now_0 6 (kd now), ai G h_now_1 18 (pl now), ai G h_now_2 6 (lf now), ai G h_now_3 6 (se now)] sz) := by
  refine Met.ofW (cc := cX0_failsOf) (maxL := 2) (ret := (some .int)) (by decide) rfl ?_
  intro p e s m args below meth c s₁ B hml hv
  obtain ⟨rfl, hsz, hP, hK, hD0⟩ := hv
  have hx := B.exec
  have hb := B.bytes
  have hr := B.returns
  have hts := atoms_spec (ws := (ws_ yX0_failsOf cX0_failsOf 2 (some .int))) B.pre
  have hts : ∀ w ∈ lw_all, w.before _ s = true := fun w h => hts w (List.mem_cons_of_mem _ h)
  have hown : s.vm.findClass RX0 = some m.cls := findClass_of_methodNamed B.named
  have hlocks := B.notSynchronized
  subst hsz
  have hD := hD0.self (sz := s.heap.size)
  generalize hAe : va_A [oc h 0 [.ref h_kinds, .ref h_now, .ref h_fault, .ref h_tape, .int taped, .int reads, .ref h_got, .ref h_failing, .ref h_past, .int undoMany, .ref h_aside, .ref h_best, .ref h_tried, .ref h_kept, .ref h_keptPast, .int keptMany, .int isKept, .ref h_sheets], ar G h_kinds 5 5 [h_kinds_0, h_kinds_1, h_kinds_2, h_kinds_3, h_kinds_4], oc h_kinds_0 1 [], oc h_kinds_1 2 [], oc h_kinds_2 3 [], oc h_kinds_3 4 [], oc h_kinds_4 5 [], oc h_now 6 [.ref h_now_0, .ref h_now_1, .ref h_now_2, .ref h_now_3, .int (mn now), .int (ma now), .int (yr now), .int (dw now)], ai G h_now_0 6 (kd now), ai G h_now_1 18 (pl now), ai G h_now_2 6 (lf now), ai G h_now_3 6 (se now)] s.heap.size = A at hD ⊢
  have hA : ∀ q : Nat, s.heap.size ≤ q → A q := fun q h => by rw [← hAe]; exact Or.inr h
  have hS : va_S A s.heap s.heap [] := va_S.rf
  have C : Cx p s m meth c cX0_failsOf 2 (some .int) RX0 ([.ref h, .int p1] : List Value).toArray G A := ⟨hx, hb, hr, hlocks, hml, hown, hts, hK, hA⟩
  have hl := lv_entry ([.ref h, .int p1]) (n := 2) (Nat.le_of_ble_eq_true rfl)
  rw [lg_entry_eq]
  generalize (lg_sl ([.ref h, .int p1]) ++ List.replicate (2 - (lg_sl ([.ref h, .int p1])).length) Slot.unset).toArray = ls at hl ⊢
  have hl : lv_has ls 2 [(0, .ref h), (1, .int p1)] := hl
  unfold wp_X0_failsOf at hw
  refine lv_aload_n hx hb dX0_failsOf_0 rfl (lv_at hl 0 rfl) ?_
  refine va_get (D := G.1) (ci := 0) (v := .ref h_now) (C := RX0) (T := TX0) (N := 18) hx hb hts in_X0 hown hK.1 hP 0 rfl rfl 1 (by decide) (hts _ q257) (fun _ h9 => h9) rfl dX0_failsOf_1 ?_
  refine lv_iload_n hx hb dX0_failsOf_4 rfl (lv_at hl 1 rfl) ?_
  have hPc := hP.sub (ws' := [oc h_now 6 [.ref h_now_0, .ref h_now_1, .ref h_now_2, .ref h_now_3, .int (mn now), .int (ma now), .int (yr now), .int (dw now)], ai G h_now_0 6 (kd now), ai G h_now_1 18 (pl now), ai G h_now_2 6 (lf now), ai G h_now_3 6 (se now)]) [7, 8, 9, 10, 11] rfl
  have hDc := hD.sub (ws' := [oc h_now 6 [.ref h_now_0, .ref h_now_1, .ref h_now_2, .ref h_now_3, .int (mn now), .int (ma now), .int (yr now), .int (dw now)], ai G h_now_0 6 (kd now), ai G h_now_1 18 (pl now), ai G h_now_2 6 (lf now), ai G h_now_3 6 (se now)]) [7, 8, 9, 10, 11] (by decide) rfl
  have hFc := va_free (wc := [oc h_now 6 [.ref h_now_0, .ref h_now_1, .ref h_now_2, .ref h_now_3, .int (mn now), .int (ma now), .int (yr now), .int (dw now)], ai G h_now_0 6 (kd now), ai G h_now_1 18 (pl now), ai G h_now_2 6 (lf now), ai G h_now_3 6 (se now)]) hD hS hA [7, 8, 9, 10, 11] rfl
  refine va_calli (va_runV (As := [.int p1]) (rest := []) ⟨hx, hb, hml, hown, hts⟩ (mt_X6_seatOf l G h_now h_now_0 h_now_1 h_now_2 h_now_3 s.heap.size now p1 _ hw) (cwV 1 hts (lw_V q350 q351 q352 q60 q353) rfl rfl rfl (by decide +kernel) ⟨Nat.le_of_ble_eq_true rfl, Nat.le_of_ble_eq_true rfl⟩) ⟨fun a U g mk q => by obtain ⟨q0, q1, qP, qK, qD⟩ := q; exact ⟨q0, q1, qP, qK.call, qD⟩, va_recv hK.1 hP (ci := 6) (q0 := 7) rfl rfl, fun U hU hW => ⟨rfl, by rw [hU], by rw [hU]; exact hPc, hK.warm hW, hDc.weaken (fun _ _ _ _ => trivial)⟩⟩ rfl rfl hl.1 rfl (lv_room (Nat.le_of_ble_eq_true rfl)) dX0_failsOf_5 ⟨Nat.le_of_ble_eq_true rfl, Nat.le_of_ble_eq_true rfl⟩) hS (fun q _ h => hFc q h) hFc (fun r_1 _ t H1 locs ht hvm hw hB hz1 hk1 hS => ?_)
  obtain ⟨hP1, hD1⟩ := hB
  rw [ht] at hP1
  obtain ⟨hP, hD⟩ := va_join (wr := [oc h 0 [.ref h_kinds, .ref h_now, .ref h_fault, .ref h_tape, .int taped, .int reads, .ref h_got, .ref h_failing, .ref h_past, .int undoMany, .ref h_aside, .ref h_best, .ref h_tried, .ref h_kept, .ref h_keptPast, .int keptMany, .int isKept, .ref h_sheets], ar G h_kinds 5 5 [h_kinds_0, h_kinds_1, h_kinds_2, h_kinds_3, h_kinds_4], oc h_kinds_0 1 [], oc h_kinds_1 2 [], oc h_kinds_2 3 [], oc h_kinds_3 4 [], oc h_kinds_4 5 []]) (w1 := [oc h_now 6 [.ref h_now_0, .ref h_now_1, .ref h_now_2, .ref h_now_3, .int (mn now), .int (ma now), .int (yr now), .int (dw now)], ai G h_now_0 6 (kd now), ai G h_now_1 18 (pl now), ai G h_now_2 6 (lf now), ai G h_now_3 6 (se now)]) hP hD [7, 8, 9, 10, 11] [0, 1, 2, 3, 4, 5, 6] rfl rfl (by decide) (by decide) hk1 hFc hP1 hD1
  clear hPc hDc hFc hP1 hD1 hz1 hk1 hvm
  generalize H1 = H at hP hS ⊢
  have hP : va_P G.1 gCl [oc h 0 [.ref h_kinds, .ref h_now, .ref h_fault, .ref h_tape, .int taped, .int reads, .ref h_got, .ref h_failing, .ref h_past, .int undoMany, .ref h_aside, .ref h_best, .ref h_tried, .ref h_kept, .ref h_keptPast, .int keptMany, .int isKept, .ref h_sheets], ar G h_kinds 5 5 [h_kinds_0, h_kinds_1, h_kinds_2, h_kinds_3, h_kinds_4], oc h_kinds_0 1 [], oc h_kinds_1 2 [], oc h_kinds_2 3 [], oc h_kinds_3 4 [], oc h_kinds_4 5 [], oc h_now 6 [.ref h_now_0, .ref h_now_1, .ref h_now_2, .ref h_now_3, .int (mn now), .int (ma now), .int (yr now), .int (dw now)], ai G h_now_0 6 (kd now), ai G h_now_1 18 (pl now), ai G h_now_2 6 (lf now), ai G h_now_3 6 (se now)] H := hP
  have hD : va_D A [oc h 0 [.ref h_kinds, .ref h_now, .ref h_fault, .ref h_tape, .int taped, .int reads, .ref h_got, .ref h_failing, .ref h_past, .int undoMany, .ref h_aside, .ref h_best, .ref h_tried, .ref h_kept, .ref h_keptPast, .int keptMany, .int isKept, .ref h_sheets], ar G h_kinds 5 5 [h_kinds_0, h_kinds_1, h_kinds_2, h_kinds_3, h_kinds_4], oc h_kinds_0 1 [], oc h_kinds_1 2 [], oc h_kinds_2 3 [], oc h_kinds_3 4 [], oc h_kinds_4 5 [], oc h_now 6 [.ref h_now_0, .ref h_now_1, .ref h_now_2, .ref h_now_3, .int (mn now), .int (ma now), .int (yr now), .int (dw now)], ai G h_now_0 6 (kd now), ai G h_now_1 18 (pl now), ai G h_now_2 6 (lf now), ai G h_now_3 6 (se now)] := hD
  refine lv_if_ge (tgt := 15) hx hb dX0_failsOf_8 (by decide) (fun c_2 => ?_) (fun c_2 => ?_)
  · replace hw := hw.1 c_2
    refine lv_aload_n hx hb dX0_failsOf_15 rfl (lv_at hl 0 rfl) ?_
    refine va_get (D := G.1) (ci := 0) (v := .ref h_kinds) (C := RX0) (T := TX0) (N := 18) hx hb hts in_X0 hown hK.1 hP 0 rfl rfl 0 (by decide) (hts _ q256) (fun _ h9 => h9) rfl dX0_failsOf_16 ?_
    refine lv_aload_n hx hb dX0_failsOf_19 rfl (lv_at hl 0 rfl) ?_
    refine va_get (D := G.1) (ci := 0) (v := .ref h_now) (C := RX0) (T := TX0) (N := 18) hx hb hts in_X0 hown hK.1 hP 0 rfl rfl 1 (by decide) (hts _ q257) (fun _ h9 => h9) rfl dX0_failsOf_20 ?_
    refine va_getN (D := G.1) (ci := 6) (v := .ref h_now_0) (C := RX6) (T := TX6) (N := 8) hx hb hts in_X6 hown hK.1 hP 7 rfl rfl 0 (by decide) (hK.n q128 rfl) (fun _ h9 => h9) rfl dX0_failsOf_23 ?_
    refine lv_iload_n hx hb dX0_failsOf_26 rfl (lv_at hl 1 rfl) ?_
    obtain ⟨i_3, hw⟩ := hw
    refine z_iald hx hb hK.1 hP 8 0 rfl rfl i_3 dX0_failsOf_27 (k := p1.toNatClampNeg) rfl ?_
    obtain ⟨i_4, hw⟩ := hw
    by_cases c_5 : ((kd now) p1.toNatClampNeg) = (0 : Int32)
    · replace hw := hw.1 c_5
      refine z_aald (k := (0 : Int32)) hx hb hK.1 hP 1 5 rfl rfl c_5 (vin_l (by decide +kernel)) dX0_failsOf_28 (j := 0) rfl rfl ?_
      refine lv_aload_n hx hb dX0_failsOf_29 rfl (lv_at hl 0 rfl) ?_
      refine va_get (D := G.1) (ci := 0) (v := .ref h_now) (C := RX0) (T := TX0) (N := 18) hx hb hts in_X0 hown hK.1 hP 0 rfl rfl 1 (by decide) (hts _ q257) (fun _ h9 => h9) rfl dX0_failsOf_30 ?_
      refine lv_iload_n hx hb dX0_failsOf_33 rfl (lv_at hl 1 rfl) ?_
      have hPc := hP.sub (ws' := []) [] rfl
      have hDc := hD.sub (ws' := []) [] (by decide) rfl
      have hFc := va_free (wc := []) hD hS hA [] rfl
      refine va_calli (va_runV (As := [.ref h_now, .int p1]) (rest := []) ⟨hx, hb, hml, hown, hts⟩ (mt_X1_fails l G h_kinds_0 h_now H.size  p1 _ hw) (cwV 2 hts (lw_V q382 q383 q384 q55 q415) rfl rfl rfl (by decide +kernel) ⟨Nat.le_of_ble_eq_true rfl, Nat.le_of_ble_eq_true rfl⟩) ⟨fun a U g mk q => by obtain ⟨q0, q1, qP, qK, qD⟩ := q; exact ⟨q0, q1, qP, qK.call, qD⟩, va_recv hK.1 hP (ci := 1) (q0 := 2) rfl rfl, fun U hU hW => ⟨rfl, by rw [hU], by rw [hU]; exact hPc, hK.warm hW, hDc.weaken (fun _ _ _ _ => trivial)⟩⟩ rfl rfl hl.1 rfl (lv_room (Nat.le_of_ble_eq_true rfl)) dX0_failsOf_34 ⟨Nat.le_of_ble_eq_true rfl, Nat.le_of_ble_eq_true rfl⟩) hS (fun q _ h => hFc q h) hFc (fun r_6 _ t H1 locs ht hvm hw hB hz1 hk1 hS => ?_)
      obtain ⟨hP1, hD1⟩ := hB
      rw [ht] at hP1
      obtain ⟨hP, hD⟩ := va_join (wr := [oc h 0 [.ref h_kinds, .ref h_now, .ref h_fault, .ref h_tape, .int taped, .int reads, .ref h_got, .ref h_failing, .ref h_past, .int undoMany, .ref h_aside, .ref h_best, .ref h_tried, .ref h_kept, .ref h_keptPast, .int keptMany, .int isKept, .ref h_sheets], ar G h_kinds 5 5 [h_kinds_0, h_kinds_1, h_kinds_2, h_kinds_3, h_kinds_4], oc h_kinds_0 1 [], oc h_kinds_1 2 [], oc h_kinds_2 3 [], oc h_kinds_3 4 [], oc h_kinds_4 5 [], oc h_now 6 [.ref h_now_0, .ref h_now_1, .ref h_now_2, .ref h_now_3, .int (mn now), .int (ma now), .int (yr now), .int (dw now)], ai G h_now_0 6 (kd now), ai G h_now_1 18 (pl now), ai G h_now_2 6 (lf now), ai G h_now_3 6 (se now)]) (w1 := []) hP hD [] [0, 1, 2, 3, 4, 5, 6, 7, 8, 9, 10, 11] rfl rfl (by decide) (by decide) hk1 hFc hP1 hD1
      clear hPc hDc hFc hP1 hD1 hz1 hk1 hvm
      generalize H1 = H at hP hS ⊢
      have hP : va_P G.1 gCl [oc h 0 [.ref h_kinds, .ref h_now, .ref h_fault, .ref h_tape, .int taped, .int reads, .ref h_got, .ref h_failing, .ref h_past, .int undoMany, .ref h_aside, .ref h_best, .ref h_tried, .ref h_kept, .ref h_keptPast, .int keptMany, .int isKept, .ref h_sheets], ar G h_kinds 5 5 [h_kinds_0, h_kinds_1, h_kinds_2, h_kinds_3, h_kinds_4], oc h_kinds_0 1 [], oc h_kinds_1 2 [], oc h_kinds_2 3 [], oc h_kinds_3 4 [], oc h_kinds_4 5 [], oc h_now 6 [.ref h_now_0, .ref h_now_1, .ref h_now_2, .ref h_now_3, .int (mn now), .int (ma now), .int (yr now), .int (dw now)], ai G h_now_0 6 (kd now), ai G h_now_1 18 (pl now), ai G h_now_2 6 (lf now), ai G h_now_3 6 (se now)] H := hP
      have hD : va_D A [oc h 0 [.ref h_kinds, .ref h_now, .ref h_fault, .ref h_tape, .int taped, .int reads, .ref h_got, .ref h_failing, .ref h_past, .int undoMany, .ref h_aside, .ref h_best, .ref h_tried, .ref h_kept, .ref h_keptPast, .int keptMany, .int isKept, .ref h_sheets], ar G h_kinds 5 5 [h_kinds_0, h_kinds_1, h_kinds_2, h_kinds_3, h_kinds_4], oc h_kinds_0 1 [], oc h_kinds_1 2 [], oc h_kinds_2 3 [], oc h_kinds_3 4 [], oc h_kinds_4 5 [], oc h_now 6 [.ref h_now_0, .ref h_now_1, .ref h_now_2, .ref h_now_3, .int (mn now), .int (ma now), .int (yr now), .int (dw now)], ai G h_now_0 6 (kd now), ai G h_now_1 18 (pl now), ai G h_now_2 6 (lf now), ai G h_now_3 6 (se now)] := hD
      have hP9 := hP
      have hD9 := hD
      exact W.iret (v := r_6) hx hb hr (fun t ht hW => ⟨⟨r_6, (), rfl, hw, by rw [ht]; exact hP9, hD9⟩, hS.F ht⟩) hS.2.2 dX0_failsOf_37
    by_cases c_7 : ((kd now) p1.toNatClampNeg) = (1 : Int32)
    · replace hw := hw.2.1 c_7
      refine z_aald (k := (1 : Int32)) hx hb hK.1 hP 1 5 rfl rfl c_7 (vin_l (by decide +kernel)) dX0_failsOf_28 (j := 1) rfl rfl ?_
      refine lv_aload_n hx hb dX0_failsOf_29 rfl (lv_at hl 0 rfl) ?_
      refine va_get (D := G.1) (ci := 0) (v := .ref h_now) (C := RX0) (T := TX0) (N := 18) hx hb hts in_X0 hown hK.1 hP 0 rfl rfl 1 (by decide) (hts _ q257) (fun _ h9 => h9) rfl dX0_failsOf_30 ?_
      refine lv_iload_n hx hb dX0_failsOf_33 rfl (lv_at hl 1 rfl) ?_
      have hPc := hP.sub (ws' := [oc h_kinds_1 2 [], oc h_now 6 [.ref h_now_0, .ref h_now_1, .ref h_now_2, .ref h_now_3, .int (mn now), .int (ma now), .int (yr now), .int (dw now)], ai G h_now_0 6 (kd now), ai G h_now_1 18 (pl now), ai G h_now_2 6 (lf now), ai G h_now_3 6 (se now)]) [3, 7, 8, 9, 10, 11] rfl
      have hDc := hD.sub (ws' := [oc h_kinds_1 2 [], oc h_now 6 [.ref h_now_0, .ref h_now_1, .ref h_now_2, .ref h_now_3, .int (mn now), .int (ma now), .int (yr now), .int (dw now)], ai G h_now_0 6 (kd now), ai G h_now_1 18 (pl now), ai G h_now_2 6 (lf now), ai G h_now_3 6 (se now)]) [3, 7, 8, 9, 10, 11] (by decide) rfl
      have hFc := va_free (wc := [oc h_kinds_1 2 [], oc h_now 6 [.ref h_now_0, .ref h_now_1, .ref h_now_2, .ref h_now_3, .int (mn now), .int (ma now), .int (yr now), .int (dw now)], ai G h_now_0 6 (kd now), ai G h_now_1 18 (pl now), ai G h_now_2 6 (lf now), ai G h_now_3 6 (se now)]) hD hS hA [3, 7, 8, 9, 10, 11] rfl
      refine va_calli (va_runU (As := [.ref h_now, .int p1]) (rest := []) ⟨hx, hb, hml, hown, hts⟩ (mt_X2_fails l G h_kinds_1 h_now h_now_0 h_now_1 h_now_2 h_now_3 H.size now p1 _ hw) (va_cwO (C := "BattleBench$Hale") (owner := "BattleBench$Plain") (x := ⟨"BattleBench$Plain", "fails", "(LBattleBench$Bench;I)I"⟩) 2 hts (lw_app (List.forall_mem_cons.mpr ⟨q382, List.forall_mem_cons.mpr ⟨q385, List.forall_mem_cons.mpr ⟨q383, List.forall_mem_cons.mpr ⟨q397, List.forall_mem_cons.mpr ⟨q390, List.forall_mem_cons.mpr ⟨q56, fun _ h9 => absurd h9 List.not_mem_nil⟩⟩⟩⟩⟩⟩) (lw_meth q391)) rfl rfl rfl q415 (by decide +kernel) ⟨Nat.le_of_ble_eq_true rfl, Nat.le_of_ble_eq_true rfl⟩) ⟨fun a U g mk q => by obtain ⟨q0, q1, qP, qK, qD⟩ := q; exact ⟨q0, q1, qP, qK.call, qD⟩, va_recv hK.1 hP (ci := 2) (q0 := 3) rfl rfl, fun U hU hW => ⟨rfl, by rw [hU], by rw [hU]; exact hPc, hK.warm hW, hDc.weaken (fun _ _ _ _ => trivial)⟩⟩ rfl rfl hl.1 rfl (lv_room (Nat.le_of_ble_eq_true rfl)) dX0_failsOf_34 ⟨Nat.le_of_ble_eq_true rfl, Nat.le_of_ble_eq_true rfl⟩) hS (fun q _ h => hFc q h) hFc (fun r_8 _ t H1 locs ht hvm hw hB hz1 hk1 hS => ?_)
      obtain ⟨hP1, hD1⟩ := hB
      rw [ht] at hP1
      obtain ⟨hP, hD⟩ := va_join (wr := [oc h 0 [.ref h_kinds, .ref h_now, .ref h_fault, .ref h_tape, .int taped, .int reads, .ref h_got, .ref h_failing, .ref h_past, .int undoMany, .ref h_aside, .ref h_best, .ref h_tried, .ref h_kept, .ref h_keptPast, .int keptMany, .int isKept, .ref h_sheets], ar G h_kinds 5 5 [h_kinds_0, h_kinds_1, h_kinds_2, h_kinds_3, h_kinds_4], oc h_kinds_0 1 [], oc h_kinds_2 3 [], oc h_kinds_3 4 [], oc h_kinds_4 5 []]) (w1 := [oc h_kinds_1 2 [], oc h_now 6 [.ref h_now_0, .ref h_now_1, .ref h_now_2, .ref h_now_3, .int (mn now), .int (ma now), .int (yr now), .int (dw now)], ai G h_now_0 6 (kd now), ai G h_now_1 18 (pl now), ai G h_now_2 6 (lf now), ai G h_now_3 6 (se now)]) hP hD [3, 7, 8, 9, 10, 11] [0, 1, 2, 4, 5, 6] rfl rfl (by decide) (by decide) hk1 hFc hP1 hD1
      clear hPc hDc hFc hP1 hD1 hz1 hk1 hvm
      generalize H1 = H at hP hS ⊢
      have hP : va_P G.1 gCl [oc h 0 [.ref h_kinds, .ref h_now, .ref h_fault, .ref h_tape, .int taped, .int reads, .ref h_got, .ref h_failing, .ref h_past, .int undoMany, .ref h_aside, .ref h_best, .ref h_tried, .ref h_kept, .ref h_keptPast, .int keptMany, .int isKept, .ref h_sheets], ar G h_kinds 5 5 [h_kinds_0, h_kinds_1, h_kinds_2, h_kinds_3, h_kinds_4], oc h_kinds_0 1 [], oc h_kinds_2 3 [], oc h_kinds_3 4 [], oc h_kinds_4 5 [], oc h_kinds_1 2 [], oc h_now 6 [.ref h_now_0, .ref h_now_1, .ref h_now_2, .ref h_now_3, .int (mn now), .int (ma now), .int (yr now), .int (dw now)], ai G h_now_0 6 (kd now), ai G h_now_1 18 (pl now), ai G h_now_2 6 (lf now), ai G h_now_3 6 (se now)] H := hP
      have hD : va_D A [oc h 0 [.ref h_kinds, .ref h_now, .ref h_fault, .ref h_tape, .int taped, .int reads, .ref h_got, .ref h_failing, .ref h_past, .int undoMany, .ref h_aside, .ref h_best, .ref h_tried, .ref h_kept, .ref h_keptPast, .int keptMany, .int isKept, .ref h_sheets], ar G h_kinds 5 5 [h_kinds_0, h_kinds_1, h_kinds_2, h_kinds_3, h_kinds_4], oc h_kinds_0 1 [], oc h_kinds_2 3 [], oc h_kinds_3 4 [], oc h_kinds_4 5 [], oc h_kinds_1 2 [], oc h_now 6 [.ref h_now_0, .ref h_now_1, .ref h_now_2, .ref h_now_3, .int (mn now), .int (ma now), .int (yr now), .int (dw now)], ai G h_now_0 6 (kd now), ai G h_now_1 18 (pl now), ai G h_now_2 6 (lf now), ai G h_now_3 6 (se now)] := hD
      have hP9 := hP.sub (ws' := [oc h 0 [.ref h_kinds, .ref h_now, .ref h_fault, .ref h_tape, .int taped, .int reads, .ref h_got, .ref h_failing, .ref h_past, .int undoMany, .ref h_aside, .ref h_best, .ref h_tried, .ref h_kept, .ref h_keptPast, .int keptMany, .int isKept, .ref h_sheets], ar G h_kinds 5 5 [h_kinds_0, h_kinds_1, h_kinds_2, h_kinds_3, h_kinds_4], oc h_kinds_0 1 [], oc h_kinds_1 2 [], oc h_kinds_2 3 [], oc h_kinds_3 4 [], oc h_kinds_4 5 [], oc h_now 6 [.ref h_now_0, .ref h_now_1, .ref h_now_2, .ref h_now_3, .int (mn now), .int (ma now), .int (yr now), .int (dw now)], ai G h_now_0 6 (kd now), ai G h_now_1 18 (pl now), ai G h_now_2 6 (lf now), ai G h_now_3 6 (se now)]) [0, 1, 2, 6, 3, 4, 5, 7, 8, 9, 10, 11] rfl
      have hD9 := hD.sub (ws' := [oc h 0 [.ref h_kinds, .ref h_now, .ref h_fault, .ref h_tape, .int taped, .int reads, .ref h_got, .ref h_failing, .ref h_past, .int undoMany, .ref h_aside, .ref h_best, .ref h_tried, .ref h_kept, .ref h_keptPast, .int keptMany, .int isKept, .ref h_sheets], ar G h_kinds 5 5 [h_kinds_0, h_kinds_1, h_kinds_2, h_kinds_3, h_kinds_4], oc h_kinds_0 1 [], oc h_kinds_1 2 [], oc h_kinds_2 3 [], oc h_kinds_3 4 [], oc h_kinds_4 5 [], oc h_now 6 [.ref h_now_0, .ref h_now_1, .ref h_now_2, .ref h_now_3, .int (mn now), .int (ma now), .int (yr now), .int (dw now)], ai G h_now_0 6 (kd now), ai G h_now_1 18 (pl now), ai G h_now_2 6 (lf now), ai G h_now_3 6 (se now)]) [0, 1, 2, 6, 3, 4, 5, 7, 8, 9, 10, 11] (by decide) rfl
      exact W.iret (v := r_8) hx hb hr (fun t ht hW => ⟨⟨r_8, (), rfl, hw, by rw [ht]; exact hP9, hD9⟩, hS.F ht⟩) hS.2.2 dX0_failsOf_37
    by_cases c_9 : ((kd now) p1.toNatClampNeg) = (2 : Int32)
    · replace hw := hw.2.2.1 c_9
      refine z_aald (k := (2 : Int32)) hx hb hK.1 hP 1 5 rfl rfl c_9 (vin_l (by decide +kernel)) dX0_failsOf_28 (j := 2) rfl rfl ?_
      refine lv_aload_n hx hb dX0_failsOf_29 rfl (lv_at hl 0 rfl) ?_
      refine va_get (D := G.1) (ci := 0) (v := .ref h_now) (C := RX0) (T := TX0) (N := 18) hx hb hts in_X0 hown hK.1 hP 0 rfl rfl 1 (by decide) (hts _ q257) (fun _ h9 => h9) rfl dX0_failsOf_30 ?_
      refine lv_iload_n hx hb dX0_failsOf_33 rfl (lv_at hl 1 rfl) ?_
      have hPc := hP.sub (ws' := [oc h_kinds_2 3 []]) [4] rfl
      have hDc := hD.sub (ws' := [oc h_kinds_2 3 []]) [4] (by decide) rfl
      have hFc := va_free (wc := [oc h_kinds_2 3 []]) hD hS hA [4] rfl
      refine va_calli (va_runU (As := [.ref h_now, .int p1]) (rest := []) ⟨hx, hb, hml, hown, hts⟩ (mt_X3_fails l G h_kinds_2 h_now H.size  p1 _ hw) (va_cwO (C := "BattleBench$Hurt") (owner := "BattleBench$Plain") (x := ⟨"BattleBench$Plain", "fails", "(LBattleBench$Bench;I)I"⟩) 2 hts (lw_app (List.forall_mem_cons.mpr ⟨q382, List.forall_mem_cons.mpr ⟨q385, List.forall_mem_cons.mpr ⟨q383, List.forall_mem_cons.mpr ⟨q398, List.forall_mem_cons.mpr ⟨q399, List.forall_mem_cons.mpr ⟨q57, fun _ h9 => absurd h9 List.not_mem_nil⟩⟩⟩⟩⟩⟩) (lw_meth q400)) rfl rfl rfl q415 (by decide +kernel) ⟨Nat.le_of_ble_eq_true rfl, Nat.le_of_ble_eq_true rfl⟩) ⟨fun a U g mk q => by obtain ⟨q0, q1, qP, qK, qD⟩ := q; exact ⟨q0, q1, qP, qK.call, qD⟩, va_recv hK.1 hP (ci := 3) (q0 := 4) rfl rfl, fun U hU hW => ⟨rfl, by rw [hU], by rw [hU]; exact hPc, hK.warm hW, hDc.weaken (fun _ _ _ _ => trivial)⟩⟩ rfl rfl hl.1 rfl (lv_room (Nat.le_of_ble_eq_true rfl)) dX0_failsOf_34 ⟨Nat.le_of_ble_eq_true rfl, Nat.le_of_ble_eq_true rfl⟩) hS (fun q _ h => hFc q h) hFc (fun r_10 _ t H1 locs ht hvm hw hB hz1 hk1 hS => ?_)
      obtain ⟨hP1, hD1⟩ := hB
      rw [ht] at hP1
      obtain ⟨hP, hD⟩ := va_join (wr := [oc h 0 [.ref h_kinds, .ref h_now, .ref h_fault, .ref h_tape, .int taped, .int reads, .ref h_got, .ref h_failing, .ref h_past, .int undoMany, .ref h_aside, .ref h_best, .ref h_tried, .ref h_kept, .ref h_keptPast, .int keptMany, .int isKept, .ref h_sheets], ar G h_kinds 5 5 [h_kinds_0, h_kinds_1, h_kinds_2, h_kinds_3, h_kinds_4], oc h_kinds_0 1 [], oc h_kinds_1 2 [], oc h_kinds_3 4 [], oc h_kinds_4 5 [], oc h_now 6 [.ref h_now_0, .ref h_now_1, .ref h_now_2, .ref h_now_3, .int (mn now), .int (ma now), .int (yr now), .int (dw now)], ai G h_now_0 6 (kd now), ai G h_now_1 18 (pl now), ai G h_now_2 6 (lf now), ai G h_now_3 6 (se now)]) (w1 := [oc h_kinds_2 3 []]) hP hD [4] [0, 1, 2, 3, 5, 6, 7, 8, 9, 10, 11] rfl rfl (by decide) (by decide) hk1 hFc hP1 hD1
      clear hPc hDc hFc hP1 hD1 hz1 hk1 hvm
      generalize H1 = H at hP hS ⊢
      have hP : va_P G.1 gCl [oc h 0 [.ref h_kinds, .ref h_now, .ref h_fault, .ref h_tape, .int taped, .int reads, .ref h_got, .ref h_failing, .ref h_past, .int undoMany, .ref h_aside, .ref h_best, .ref h_tried, .ref h_kept, .ref h_keptPast, .int keptMany, .int isKept, .ref h_sheets], ar G h_kinds 5 5 [h_kinds_0, h_kinds_1, h_kinds_2, h_kinds_3, h_kinds_4], oc h_kinds_0 1 [], oc h_kinds_1 2 [], oc h_kinds_3 4 [], oc h_kinds_4 5 [], oc h_now 6 [.ref h_now_0, .ref h_now_1, .ref h_now_2, .ref h_now_3, .int (mn now), .int (ma now), .int (yr now), .int (dw now)], ai G h_now_0 6 (kd now), ai G h_now_1 18 (pl now), ai G h_now_2 6 (lf now), ai G h_now_3 6 (se now), oc h_kinds_2 3 []] H := hP
      have hD : va_D A [oc h 0 [.ref h_kinds, .ref h_now, .ref h_fault, .ref h_tape, .int taped, .int reads, .ref h_got, .ref h_failing, .ref h_past, .int undoMany, .ref h_aside, .ref h_best, .ref h_tried, .ref h_kept, .ref h_keptPast, .int keptMany, .int isKept, .ref h_sheets], ar G h_kinds 5 5 [h_kinds_0, h_kinds_1, h_kinds_2, h_kinds_3, h_kinds_4], oc h_kinds_0 1 [], oc h_kinds_1 2 [], oc h_kinds_3 4 [], oc h_kinds_4 5 [], oc h_now 6 [.ref h_now_0, .ref h_now_1, .ref h_now_2, .ref h_now_3, .int (mn now), .int (ma now), .int (yr now), .int (dw now)], ai G h_now_0 6 (kd now), ai G h_now_1 18 (pl now), ai G h_now_2 6 (lf now), ai G h_now_3 6 (se now), oc h_kinds_2 3 []] := hD
      have hP9 := hP.sub (ws' := [oc h 0 [.ref h_kinds, .ref h_now, .ref h_fault, .ref h_tape, .int taped, .int reads, .ref h_got, .ref h_failing, .ref h_past, .int undoMany, .ref h_aside, .ref h_best, .ref h_tried, .ref h_kept, .ref h_keptPast, .int keptMany, .int isKept, .ref h_sheets], ar G h_kinds 5 5 [h_kinds_0, h_kinds_1, h_kinds_2, h_kinds_3, h_kinds_4], oc h_kinds_0 1 [], oc h_kinds_1 2 [], oc h_kinds_2 3 [], oc h_kinds_3 4 [], oc h_kinds_4 5 [], oc h_now 6 [.ref h_now_0, .ref h_now_1, .ref h_now_2, .ref h_now_3, .int (mn now), .int (ma now), .int (yr now), .int (dw now)], ai G h_now_0 6 (kd now), ai G h_now_1 18 (pl now), ai G h_now_2 6 (lf now), ai G h_now_3 6 (se now)]) [0, 1, 2, 3, 11, 4, 5, 6, 7, 8, 9, 10] rfl
      have hD9 := hD.sub (ws' := [oc h 0 [.ref h_kinds, .ref h_now, .ref h_fault, .ref h_tape, .int taped, .int reads, .ref h_got, .ref h_failing, .ref h_past, .int undoMany, .ref h_aside, .ref h_best, .ref h_tried, .ref h_kept, .ref h_keptPast, .int keptMany, .int isKept, .ref h_sheets], ar G h_kinds 5 5 [h_kinds_0, h_kinds_1, h_kinds_2, h_kinds_3, h_kinds_4], oc h_kinds_0 1 [], oc h_kinds_1 2 [], oc h_kinds_2 3 [], oc h_kinds_3 4 [], oc h_kinds_4 5 [], oc h_now 6 [.ref h_now_0, .ref h_now_1, .ref h_now_2, .ref h_now_3, .int (mn now), .int (ma now), .int (yr now), .int (dw now)], ai G h_now_0 6 (kd now), ai G h_now_1 18 (pl now), ai G h_now_2 6 (lf now), ai G h_now_3 6 (se now)]) [0, 1, 2, 3, 11, 4, 5, 6, 7, 8, 9, 10] (by decide) rfl
      exact W.iret (v := r_10) hx hb hr (fun t ht hW => ⟨⟨r_10, (), rfl, hw, by rw [ht]; exact hP9, hD9⟩, hS.F ht⟩) hS.2.2 dX0_failsOf_37
    by_cases c_11 : ((kd now) p1.toNatClampNeg) = (3 : Int32)
    · replace hw := hw.2.2.2.1 c_11
      refine z_aald (k := (3 : Int32)) hx hb hK.1 hP 1 5 rfl rfl c_11 (vin_l (by decide +kernel)) dX0_failsOf_28 (j := 3) rfl rfl ?_
      refine lv_aload_n hx hb dX0_failsOf_29 rfl (lv_at hl 0 rfl) ?_
      refine va_get (D := G.1) (ci := 0) (v := .ref h_now) (C := RX0) (T := TX0) (N := 18) hx hb hts in_X0 hown hK.1 hP 0 rfl rfl 1 (by decide) (hts _ q257) (fun _ h9 => h9) rfl dX0_failsOf_30 ?_
      refine lv_iload_n hx hb dX0_failsOf_33 rfl (lv_at hl 1 rfl) ?_
      have hPc := hP.sub (ws' := [oc h_kinds_3 4 [], oc h_now 6 [.ref h_now_0, .ref h_now_1, .ref h_now_2, .ref h_now_3, .int (mn now), .int (ma now), .int (yr now), .int (dw now)], ai G h_now_0 6 (kd now), ai G h_now_1 18 (pl now), ai G h_now_2 6 (lf now), ai G h_now_3 6 (se now)]) [5, 7, 8, 9, 10, 11] rfl
      have hDc := hD.sub (ws' := [oc h_kinds_3 4 [], oc h_now 6 [.ref h_now_0, .ref h_now_1, .ref h_now_2, .ref h_now_3, .int (mn now), .int (ma now), .int (yr now), .int (dw now)], ai G h_now_0 6 (kd now), ai G h_now_1 18 (pl now), ai G h_now_2 6 (lf now), ai G h_now_3 6 (se now)]) [5, 7, 8, 9, 10, 11] (by decide) rfl
      have hFc := va_free (wc := [oc h_kinds_3 4 [], oc h_now 6 [.ref h_now_0, .ref h_now_1, .ref h_now_2, .ref h_now_3, .int (mn now), .int (ma now), .int (yr now), .int (dw now)], ai G h_now_0 6 (kd now), ai G h_now_1 18 (pl now), ai G h_now_2 6 (lf now), ai G h_now_3 6 (se now)]) hD hS hA [5, 7, 8, 9, 10, 11] rfl
      refine va_calli (va_runU (As := [.ref h_now, .int p1]) (rest := []) ⟨hx, hb, hml, hown, hts⟩ (mt_X4_fails l G h_kinds_3 h_now h_now_0 h_now_1 h_now_2 h_now_3 H.size now p1 _ hw) (va_cwO (C := "BattleBench$Drummer") (owner := "BattleBench$Plain") (x := ⟨"BattleBench$Plain", "fails", "(LBattleBench$Bench;I)I"⟩) 2 hts (lw_app (List.forall_mem_cons.mpr ⟨q382, List.forall_mem_cons.mpr ⟨q385, List.forall_mem_cons.mpr ⟨q383, List.forall_mem_cons.mpr ⟨q386, List.forall_mem_cons.mpr ⟨q387, List.forall_mem_cons.mpr ⟨q58, fun _ h9 => absurd h9 List.not_mem_nil⟩⟩⟩⟩⟩⟩) (lw_meth q388)) rfl rfl rfl q415 (by decide +kernel) ⟨Nat.le_of_ble_eq_true rfl, Nat.le_of_ble_eq_true rfl⟩) ⟨fun a U g mk q => by obtain ⟨q0, q1, qP, qK, qD⟩ := q; exact ⟨q0, q1, qP, qK.call, qD⟩, va_recv hK.1 hP (ci := 4) (q0 := 5) rfl rfl, fun U hU hW => ⟨rfl, by rw [hU], by rw [hU]; exact hPc, hK.warm hW, hDc.weaken (fun _ _ _ _ => trivial)⟩⟩ rfl rfl hl.1 rfl (lv_room (Nat.le_of_ble_eq_true rfl)) dX0_failsOf_34 ⟨Nat.le_of_ble_eq_true rfl, Nat.le_of_ble_eq_true rfl⟩) hS (fun q _ h => hFc q h) hFc (fun r_12 _ t H1 locs ht hvm hw hB hz1 hk1 hS => ?_)
      obtain ⟨hP1, hD1⟩ := hB
      rw [ht] at hP1
      obtain ⟨hP, hD⟩ := va_join (wr := [oc h 0 [.ref h_kinds, .ref h_now, .ref h_fault, .ref h_tape, .int taped, .int reads, .ref h_got, .ref h_failing, .ref h_past, .int undoMany, .ref h_aside, .ref h_best, .ref h_tried, .ref h_kept, .ref h_keptPast, .int keptMany, .int isKept, .ref h_sheets], ar G h_kinds 5 5 [h_kinds_0, h_kinds_1, h_kinds_2, h_kinds_3, h_kinds_4], oc h_kinds_0 1 [], oc h_kinds_1 2 [], oc h_kinds_2 3 [], oc h_kinds_4 5 []]) (w1 := [oc h_kinds_3 4 [], oc h_now 6 [.ref h_now_0, .ref h_now_1, .ref h_now_2, .ref h_now_3, .int (mn now), .int (ma now), .int (yr now), .int (dw now)], ai G h_now_0 6 (kd now), ai G h_now_1 18 (pl now), ai G h_now_2 6 (lf now), ai G h_now_3 6 (se now)]) hP hD [5, 7, 8, 9, 10, 11] [0, 1, 2, 3, 4, 6] rfl rfl (by decide) (by decide) hk1 hFc hP1 hD1
      clear hPc hDc hFc hP1 hD1 hz1 hk1 hvm
      generalize H1 = H at hP hS ⊢
      have hP : va_P G.1 gCl [oc h 0 [.ref h_kinds, .ref h_now, .ref h_fault, .ref h_tape, .int taped, .int reads, .ref h_got, .ref h_failing, .ref h_past, .int undoMany, .ref h_aside, .ref h_best, .ref h_tried, .ref h_kept, .ref h_keptPast, .int keptMany, .int isKept, .ref h_sheets], ar G h_kinds 5 5 [h_kinds_0, h_kinds_1, h_kinds_2, h_kinds_3, h_kinds_4], oc h_kinds_0 1 [], oc h_kinds_1 2 [], oc h_kinds_2 3 [], oc h_kinds_4 5 [], oc h_kinds_3 4 [], oc h_now 6 [.ref h_now_0, .ref h_now_1, .ref h_now_2, .ref h_now_3, .int (mn now), .int (ma now), .int (yr now), .int (dw now)], ai G h_now_0 6 (kd now), ai G h_now_1 18 (pl now), ai G h_now_2 6 (lf now), ai G h_now_3 6 (se now)] H := hP
      have hD : va_D A [oc h 0 [.ref h_kinds, .ref h_now, .ref h_fault, .ref h_tape, .int taped, .int reads, .ref h_got, .ref h_failing, .ref h_past, .int undoMany, .ref h_aside, .ref h_best, .ref h_tried, .ref h_kept, .ref h_keptPast, .int keptMany, .int isKept, .ref h_sheets], ar G h_kinds 5 5 [h_kinds_0, h_kinds_1, h_kinds_2, h_kinds_3, h_kinds_4], oc h_kinds_0 1 [], oc h_kinds_1 2 [], oc h_kinds_2 3 [], oc h_kinds_4 5 [], oc h_kinds_3 4 [], oc h_now 6 [.ref h_now_0, .ref h_now_1, .ref h_now_2, .ref h_now_3, .int (mn now), .int (ma now), .int (yr now), .int (dw now)], ai G h_now_0 6 (kd now), ai G h_now_1 18 (pl now), ai G h_now_2 6 (lf now), ai G h_now_3 6 (se now)] := hD
      have hP9 := hP.sub (ws' := [oc h 0 [.ref h_kinds, .ref h_now, .ref h_fault, .ref h_tape, .int taped, .int reads, .ref h_got, .ref h_failing, .ref h_past, .int undoMany, .ref h_aside, .ref h_best, .ref h_tried, .ref h_kept, .ref h_keptPast, .int keptMany, .int isKept, .ref h_sheets], ar G h_kinds 5 5 [h_kinds_0, h_kinds_1, h_kinds_2, h_kinds_3, h_kinds_4], oc h_kinds_0 1 [], oc h_kinds_1 2 [], oc h_kinds_2 3 [], oc h_kinds_3 4 [], oc h_kinds_4 5 [], oc h_now 6 [.ref h_now_0, .ref h_now_1, .ref h_now_2, .ref h_now_3, .int (mn now), .int (ma now), .int (yr now), .int (dw now)], ai G h_now_0 6 (kd now), ai G h_now_1 18 (pl now), ai G h_now_2 6 (lf now), ai G h_now_3 6 (se now)]) [0, 1, 2, 3, 4, 6, 5, 7, 8, 9, 10, 11] rfl
      have hD9 := hD.sub (ws' := [oc h 0 [.ref h_kinds, .ref h_now, .ref h_fault, .ref h_tape, .int taped, .int reads, .ref h_got, .ref h_failing, .ref h_past, .int undoMany, .ref h_aside, .ref h_best, .ref h_tried, .ref h_kept, .ref h_keptPast, .int keptMany, .int isKept, .ref h_sheets], ar G h_kinds 5 5 [h_kinds_0, h_kinds_1, h_kinds_2, h_kinds_3, h_kinds_4], oc h_kinds_0 1 [], oc h_kinds_1 2 [], oc h_kinds_2 3 [], oc h_kinds_3 4 [], oc h_kinds_4 5 [], oc h_now 6 [.ref h_now_0, .ref h_now_1, .ref h_now_2, .ref h_now_3, .int (mn now), .int (ma now), .int (yr now), .int (dw now)], ai G h_now_0 6 (kd now), ai G h_now_1 18 (pl now), ai G h_now_2 6 (lf now), ai G h_now_3 6 (se now)]) [0, 1, 2, 3, 4, 6, 5, 7, 8, 9, 10, 11] (by decide) rfl
      exact W.iret (v := r_12) hx hb hr (fun t ht hW => ⟨⟨r_12, (), rfl, hw, by rw [ht]; exact hP9, hD9⟩, hS.F ht⟩) hS.2.2 dX0_failsOf_37
    by_cases c_13 : ((kd now) p1.toNatClampNeg) = (4 : Int32)
    · replace hw := hw.2.2.2.2 c_13
      refine z_aald (k := (4 : Int32)) hx hb hK.1 hP 1 5 rfl rfl c_13 (vin_l (by decide +kernel)) dX0_failsOf_28 (j := 4) rfl rfl ?_
      refine lv_aload_n hx hb dX0_failsOf_29 rfl (lv_at hl 0 rfl) ?_
      refine va_get (D := G.1) (ci := 0) (v := .ref h_now) (C := RX0) (T := TX0) (N := 18) hx hb hts in_X0 hown hK.1 hP 0 rfl rfl 1 (by decide) (hts _ q257) (fun _ h9 => h9) rfl dX0_failsOf_30 ?_
      refine lv_iload_n hx hb dX0_failsOf_33 rfl (lv_at hl 1 rfl) ?_
      have hPc := hP.sub (ws' := [oc h_kinds_4 5 [], oc h_now 6 [.ref h_now_0, .ref h_now_1, .ref h_now_2, .ref h_now_3, .int (mn now), .int (ma now), .int (yr now), .int (dw now)], ai G h_now_0 6 (kd now), ai G h_now_1 18 (pl now), ai G h_now_2 6 (lf now), ai G h_now_3 6 (se now)]) [6, 7, 8, 9, 10, 11] rfl
      have hDc := hD.sub (ws' := [oc h_kinds_4 5 [], oc h_now 6 [.ref h_now_0, .ref h_now_1, .ref h_now_2, .ref h_now_3, .int (mn now), .int (ma now), .int (yr now), .int (dw now)], ai G h_now_0 6 (kd now), ai G h_now_1 18 (pl now), ai G h_now_2 6 (lf now), ai G h_now_3 6 (se now)]) [6, 7, 8, 9, 10, 11] (by decide) rfl
      have hFc := va_free (wc := [oc h_kinds_4 5 [], oc h_now 6 [.ref h_now_0, .ref h_now_1, .ref h_now_2, .ref h_now_3, .int (mn now), .int (ma now), .int (yr now), .int (dw now)], ai G h_now_0 6 (kd now), ai G h_now_1 18 (pl now), ai G h_now_2 6 (lf now), ai G h_now_3 6 (se now)]) hD hS hA [6, 7, 8, 9, 10, 11] rfl
      refine va_calli (va_runU (As := [.ref h_now, .int p1]) (rest := []) ⟨hx, hb, hml, hown, hts⟩ (mt_X5_fails l G h_kinds_4 h_now h_now_0 h_now_1 h_now_2 h_now_3 H.size now p1 _ hw) (va_cwO (C := "BattleBench$Runner") (owner := "BattleBench$Plain") (x := ⟨"BattleBench$Plain", "fails", "(LBattleBench$Bench;I)I"⟩) 2 hts (lw_app (List.forall_mem_cons.mpr ⟨q382, List.forall_mem_cons.mpr ⟨q385, List.forall_mem_cons.mpr ⟨q383, List.forall_mem_cons.mpr ⟨q402, List.forall_mem_cons.mpr ⟨q403, List.forall_mem_cons.mpr ⟨q59, fun _ h9 => absurd h9 List.not_mem_nil⟩⟩⟩⟩⟩⟩) (lw_meth q404)) rfl rfl rfl q415 (by decide +kernel) ⟨Nat.le_of_ble_eq_true rfl, Nat.le_of_ble_eq_true rfl⟩) ⟨fun a U g mk q => by obtain ⟨q0, q1, qP, qK, qD⟩ := q; exact ⟨q0, q1, qP, qK.call, qD⟩, va_recv hK.1 hP (ci := 5) (q0 := 6) rfl rfl, fun U hU hW => ⟨rfl, by rw [hU], by rw [hU]; exact hPc, hK.warm hW, hDc.weaken (fun _ _ _ _ => trivial)⟩⟩ rfl rfl hl.1 rfl (lv_room (Nat.le_of_ble_eq_true rfl)) dX0_failsOf_34 ⟨Nat.le_of_ble_eq_true rfl, Nat.le_of_ble_eq_true rfl⟩) hS (fun q _ h => hFc q h) hFc (fun r_14 _ t H1 locs ht hvm hw hB hz1 hk1 hS => ?_)
      obtain ⟨hP1, hD1⟩ := hB
      rw [ht] at hP1
      obtain ⟨hP, hD⟩ := va_join (wr := [oc h 0 [.ref h_kinds, .ref h_now, .ref h_fault, .ref h_tape, .int taped, .int reads, .ref h_got, .ref h_failing, .ref h_past, .int undoMany, .ref h_aside, .ref h_best, .ref h_tried, .ref h_kept, .ref h_keptPast, .int keptMany, .int isKept, .ref h_sheets], ar G h_kinds 5 5 [h_kinds_0, h_kinds_1, h_kinds_2, h_kinds_3, h_kinds_4], oc h_kinds_0 1 [], oc h_kinds_1 2 [], oc h_kinds_2 3 [], oc h_kinds_3 4 []]) (w1 := [oc h_kinds_4 5 [], oc h_now 6 [.ref h_now_0, .ref h_now_1, .ref h_now_2, .ref h_now_3, .int (mn now), .int (ma now), .int (yr now), .int (dw now)], ai G h_now_0 6 (kd now), ai G h_now_1 18 (pl now), ai G h_now_2 6 (lf now), ai G h_now_3 6 (se now)]) hP hD [6, 7, 8, 9, 10, 11] [0, 1, 2, 3, 4, 5] rfl rfl (by decide) (by decide) hk1 hFc hP1 hD1
      clear hPc hDc hFc hP1 hD1 hz1 hk1 hvm
      generalize H1 = H at hP hS ⊢
      have hP : va_P G.1 gCl [oc h 0 [.ref h_kinds, .ref h_now, .ref h_fault, .ref h_tape, .int taped, .int reads, .ref h_got, .ref h_failing, .ref h_past, .int undoMany, .ref h_aside, .ref h_best, .ref h_tried, .ref h_kept, .ref h_keptPast, .int keptMany, .int isKept, .ref h_sheets], ar G h_kinds 5 5 [h_kinds_0, h_kinds_1, h_kinds_2, h_kinds_3, h_kinds_4], oc h_kinds_0 1 [], oc h_kinds_1 2 [], oc h_kinds_2 3 [], oc h_kinds_3 4 [], oc h_kinds_4 5 [], oc h_now 6 [.ref h_now_0, .ref h_now_1, .ref h_now_2, .ref h_now_3, .int (mn now), .int (ma now), .int (yr now), .int (dw now)], ai G h_now_0 6 (kd now), ai G h_now_1 18 (pl now), ai G h_now_2 6 (lf now), ai G h_now_3 6 (se now)] H := hP
      have hD : va_D A [oc h 0 [.ref h_kinds, .ref h_now, .ref h_fault, .ref h_tape, .int taped, .int reads, .ref h_got, .ref h_failing, .ref h_past, .int undoMany, .ref h_aside, .ref h_best, .ref h_tried, .ref h_kept, .ref h_keptPast, .int keptMany, .int isKept, .ref h_sheets], ar G h_kinds 5 5 [h_kinds_0, h_kinds_1, h_kinds_2, h_kinds_3, h_kinds_4], oc h_kinds_0 1 [], oc h_kinds_1 2 [], oc h_kinds_2 3 [], oc h_kinds_3 4 [], oc h_kinds_4 5 [], oc h_now 6 [.ref h_now_0, .ref h_now_1, .ref h_now_2, .ref h_now_3, .int (mn now), .int (ma now), .int (yr now), .int (dw now)], ai G h_now_0 6 (kd now), ai G h_now_1 18 (pl now), ai G h_now_2 6 (lf now), ai G h_now_3 6 (se now)] := hD
      have hP9 := hP
      have hD9 := hD
      exact W.iret (v := r_14) hx hb hr (fun t ht hW => ⟨⟨r_14, (), rfl, hw, by rw [ht]; exact hP9, hD9⟩, hS.F ht⟩) hS.2.2 dX0_failsOf_37
    exact absurd (z_inAll i_4 [(0 : Int32), (1 : Int32), (2 : Int32), (3 : Int32), (4 : Int32)] (by decide +kernel) (List.forall_mem_cons.mpr ⟨c_5, List.forall_mem_cons.mpr ⟨c_7, List.forall_mem_cons.mpr ⟨c_9, List.forall_mem_cons.mpr ⟨c_11, List.forall_mem_cons.mpr ⟨c_13, fun _ h9 => absurd h9 List.not_mem_nil⟩⟩⟩⟩⟩)) id
  · replace hw := hw.2 c_2
    refine lv_iconst (v := (0 : Int32)) hx hb dX0_failsOf_11 (by decide) ?_
    refine lv_goto (tgt := 37) hx hb dX0_failsOf_12 (by decide) ?_
    have hP9 := hP
    have hD9 := hD
    exact W.iret (v := (0 : Int32)) hx hb hr (fun t ht hW => ⟨⟨(0 : Int32), (), rfl, hw, by rw [ht]; exact hP9, hD9⟩, hS.F ht⟩) hS.2.2 dX0_failsOf_37
/-! BattleBench.of(II)I -/
def wp_X0_of (now : BT) (p1 : Int32) (p2 : Int32) (Q : Int32 → Prop) : Prop :=
  wp_X0_isMan now p1 (fun r_1 => ((¬ (r_1 = 0) → ((p2 = (0 : Int32) → (vp_in p1 6 ∧ Q ((kd now) p1.toNatClampNeg))) ∧ (p2 = (1 : Int32) → (vp_in p1 6 ∧ Q ((lf now) p1.toNatClampNeg))) ∧ (p2 = (2 : Int32) → wp_X6_seatOf now p1 (fun r_8 => Q r_8)) ∧ (p2 = (3 : Int32) → wp_X6_placeOf now p1 (p2 - (3 : Int32)) (fun r_10 => Q r_10)) ∧ (p2 = (4 : Int32) → wp_X6_placeOf now p1 (p2 - (3 : Int32)) (fun r_12 => Q r_12)) ∧ (p2 = (5 : Int32) → wp_X6_placeOf now p1 (p2 - (3 : Int32)) (fun r_14 => Q r_14)) ∧ (p2 = (6 : Int32) → wp_X6_stoodSet now p1 (fun r_16 => Q r_16)) ∧ (p2 = (7 : Int32) → wp_X6_sitSet now p1 (fun r_18 => Q r_18)) ∧ (p2 = (8 : Int32) → wp_X0_failsOf now p1 (fun r_20 => Q r_20)) ∧ (¬ p2 = (0 : Int32) ∧ ¬ p2 = (1 : Int32) ∧ ¬ p2 = (2 : Int32) ∧ ¬ p2 = (3 : Int32) ∧ ¬ p2 = (4 : Int32) ∧ ¬ p2 = (5 : Int32) ∧ ¬ p2 = (6 : Int32) ∧ ¬ p2 = (7 : Int32) ∧ ¬ p2 = (8 : Int32) → Q (-1 : Int32)))) ∧ ((r_1 = 0) → Q (-1 : Int32))))
set_option maxHeartbeats 4000000 in
theorem mt_X0_of (l : Launch) (G : GT) (h h_kinds h_now h_fault h_tape h_got h_failing h_past h_aside h_best h_tried h_kept h_keptPast h_sheets h_kinds_0 h_kinds_1 h_kinds_2 h_kinds_3 h_kinds_4 h_now_0 h_now_1 h_now_2 h_now_3 : Nat) (sz : Nat) (taped : Int32) (reads : Int32) (undoMany : Int32) (keptMany : Int32) (isKept : Int32) (now : BT) (p1 : Int32) (p2 : Int32) (Q : Int32 → Prop) (hw : wp_X0_of now p1 p2 Q) : Met l yX0_of (ws_ yX0_of cX0_of 3 (some .int)) ({ frames := 7, cells := 0, slots := 0, locals := 181 } : Room) (va_Pc [.ref h, .int p1, .int p2] (fun U => U.heap.size = sz ∧ va_P G.1 gCl [oc h 0 [.ref h_kinds, .ref h_now, .ref h_fault, .ref h_tape, .int taped, .int reads, .ref h_got, .ref h_failing, .ref h_past, .int undoMany, .ref h_aside, .ref h_best, .ref h_tried, .ref h_kept, .ref h_keptPast, .int keptMany, .int isKept, .ref h_sheets], ar G h_kinds 5 5 [h_kinds_0, h_kinds_1, h_kinds_2, h_kinds_3, h_kinds_4], oc h_kinds_0 1 [], oc h_kinds_1 2 [], oc h_kinds_2 3 [], oc h_kinds_3 4 [], oc h_kinds_4 5 [], oc h_now 6 [.ref h_now_0, .ref h_now_1, .ref h_now_2, .ref h_now_3, .int (mn now), .int (ma now), .int (yr now), .int (dw now)], ai G h_now_0 6 (kd now), ai G h_now_1 18 (pl now), ai G h_now_2 6 (lf now), ai G h_now_3 6 (se now)] U.heap ∧ gK G U ∧ va_D (fun _ => True) [oc h 0 [.ref h_kinds, .ref h_now, .ref h_fault, .ref h_tape, .int taped, .int reads, .ref h_got, .ref h_failing, .ref h_past, .int undoMany, .ref h_aside, .ref h_best, .ref h_tried, .ref h_kept, .ref h_keptPast, .int keptMany, .int isKept, .ref h_sheets], ar G h_kinds 5 5 [h_kinds_0, h_kinds_1, h_kinds_2, h_kinds_3, h_kinds_4], oc h_kinds_0 1 [], oc h_kinds_1 2 [], oc h_kinds_2 3 [], oc h_kinds_3 4 [], oc h_kinds_4 5 [], oc h_now 6 [.ref h_now_0, .ref h_now_1, .ref h_now_2, .ref h_now_3, .int (mn now), .int (ma now), .int (yr now), .int (dw now)], ai G h_now_0 6 (kd now), ai G h_now_1 18 (pl now), ai G h_now_2 6 (lf now), ai G h_now_3 6 (se now)])) ((fun A => (va_Qi (fun (r : Int32) (u : Unit) => Q r ) (fun u t => va_P G.1 gCl [oc h 0 [.ref h_kinds, .ref h_now, .ref h_fault, .ref h_tape, .int taped, .int reads, .ref h_got, .ref h_failing, .ref h_past, .int undoMany, .ref h_aside, .ref h_best, .ref h_tried, .ref h_kept, .ref h_keptPast, .int keptMany, .int isKept, .ref h_sheets], ar G h_kinds 5 5 [h_kinds_0, h_kinds_1, h_kinds_2, h_kinds_3, h_kinds_4], oc h_kinds_0 1 [], oc h_kinds_1 2 [], oc h_kinds_2 3 [], oc h_kinds_3 4 [], oc h_kinds_4 5 [], oc h_now 6 [.ref h_now_0, .ref h_now_1, .ref h_now_2, .ref h_now_3, .int (mn now), .int (ma now), .int (yr now), .int (dw now)], ai G h_now_0 6 (kd now), ai G h_now_1 18 (pl now), ai G h_now_2 6 (lf now), ai G h_now_3 6 (se now)] t.heap ∧ va_D A [oc h 0 [.ref h_kinds, .ref h_now, .ref h_fault, .ref h_tape, .int taped, .int reads, .ref h_got, .ref h_failing, .ref h_past, .int undoMany, .ref h_aside, .ref h_best, .ref h_tried, .ref h_kept, .ref h_keptPast, .int keptMany, .int isKept, .ref h_sheets], ar G h_kinds 5 5 [h_kinds_0, h_kinds_1, h_kinds_2, h_kinds_3, h_kinds_4], oc h_kinds_0 1 [], oc h_kinds_1 2 [], oc h_kinds_2 3 [], oc h_kinds_3 4 [], oc h_kinds_4 5 [], oc h_now 6 [.ref h_now_0, .ref h_now_1, .ref h_now_2, .ref h_now_3, .int (mn now), .int (ma now), .int (yr now), .int (dw now)], ai G h_now_0 6 (kd now), ai G h_now_1 18 (pl now), ai G h_now_2 6 (lf now), ai G h_now_3 6 (se now)]) A)) (va_A [oc h 0 [.ref h_kinds, .ref h_now, .ref h_fault, .ref h_tape, .int taped, .int reads, .ref h_got, .ref h_failing, .ref h_past, .int undoMany, .ref h_aside, .ref h_best, .ref h_tried, .ref h_kept, .ref h_keptPast, .int keptMany, .int isKept, .ref h_sheets], ar G h_kinds 5 5 [h_kinds_0, h_kinds_1, h_kinds_2, h_kinds_3, h_kinds_4], oc h_kinds_0 1 [], oc h_kinds_1 2 [], oc h_kinds_2 3 [], oc h_kinds_3 4 [], oc h_kinds_4 5 [], oc h_now 6 [.ref h_now_0, .ref h_now_1, .ref h_now_2, .ref h_now_3, .int (mn now), .int (ma now), .int (yr now), .int (dw now)], ai G h_now_0 6 (kd now), ai G h_now_1 18 (pl now), ai G h_now_2 6 (lf now), ai G h_now_3 6 (se now)] sz)) 0 0 (va_A [oc h 0 [.ref h_kinds, .ref h_now, .ref h_fault, .ref h_tape, .int taped, .int reads, .ref h_got, .ref h_failing, .ref h_past, .int undoMany, .ref h_aside, .ref h_best, .ref h_tried, .ref h_kept, .ref h_keptPast, .int keptMany, .int isKept, .ref h_sheets], ar G h_kinds 5 5 [h_kinds_0, h_kinds_1, h_kinds_2, h_kinds_3, h_kinds_4], oc h_kinds_0 1 [], oc h_kinds_1 2 [], oc h_kinds_2 3 [], oc h_kinds_3 4 [], oc h_kinds_4 5 [], oc h_now 6 [.ref h_now_0, .ref h_now_1, .ref h_now_2, .ref h_now_3, .int (mn now), .int (ma now), .int (yr now), .int (dw now)], ai G h_now_0 6 (kd now), ai G h_now_1 18 (pl now), ai G h_now_2 6 (lf now), ai G h_now_3 6 (se now)] sz) := by
  refine Met.ofW (cc := cX0_of) (maxL := 3) (ret := (some .int)) (by decide) rfl ?_
  intro p e s m args below meth c s₁ B hml hv
  obtain ⟨rfl, hsz, hP, hK, hD0⟩ := hv
  have hx := B.exec
  have hb := B.bytes
  have hr := B.returns
  have hts := atoms_spec (ws := (ws_ yX0_of cX0_of 3 (some .int))) B.pre
  have hts : ∀ w ∈ lw_all, w.before _ s = true := fun w h => hts w (List.mem_cons_of_mem _ h)
  have hown : s.vm.findClass RX0 = some m.cls := findClass_of_methodNamed B.named
  have hlocks := B.notSynchronized
  subst hsz
  have hD := hD0.self (sz := s.heap.size)
  generalize hAe : va_A [oc h 0 [.ref h_kinds, .ref h_now, .ref h_fault, .ref h_tape, .int taped, .int reads, .ref h_got, .ref h_failing, .ref h_past, .int undoMany, .ref h_aside, .ref h_best, .ref h_tried, .ref h_kept, .ref h_keptPast, .int keptMany, .int isKept, .ref h_sheets], ar G h_kinds 5 5 [h_kinds_0, h_kinds_1, h_kinds_2, h_kinds_3, h_kinds_4], oc h_kinds_0 1 [], oc h_kinds_1 2 [], oc h_kinds_2 3 [], oc h_kinds_3 4 [], oc h_kinds_4 5 [], oc h_now 6 [.ref h_now_0, .ref h_now_1, .ref h_now_2, .ref h_now_3, .int (mn now), .int (ma now), .int (yr now), .int (dw now)], ai G h_now_0 6 (kd now), ai G h_now_1 18 (pl now), ai G h_now_2 6 (lf now), ai G h_now_3 6 (se now)] s.heap.size = A at hD ⊢
  have hA : ∀ q : Nat, s.heap.size ≤ q → A q := fun q h => by rw [← hAe]; exact Or.inr h
  have hS : va_S A s.heap s.heap [] := va_S.rf
  have C : Cx p s m meth c cX0_of 3 (some .int) RX0 ([.ref h, .int p1, .int p2] : List Value).toArray G A := ⟨hx, hb, hr, hlocks, hml, hown, hts, hK, hA⟩
  have hl := lv_entry ([.ref h, .int p1, .int p2]) (n := 3) (Nat.le_of_ble_eq_true rfl)
  rw [lg_entry_eq]
  generalize (lg_sl ([.ref h, .int p1, .int p2]) ++ List.replicate (3 - (lg_sl ([.ref h, .int p1, .int p2])).length) Slot.unset).toArray = ls at hl ⊢
  have hl : lv_has ls 3 [(0, .ref h), (1, .int p1), (2, .int p2)] := hl
  unfold wp_X0_of at hw
  refine lv_aload_n hx hb dX0_of_0 rfl (lv_at hl 0 rfl) ?_
  refine lv_iload_n hx hb dX0_of_1 rfl (lv_at hl 1 rfl) ?_
  have hPc := hP.sub (ws' := [oc h 0 [.ref h_kinds, .ref h_now, .ref h_fault, .ref h_tape, .int taped, .int reads, .ref h_got, .ref h_failing, .ref h_past, .int undoMany, .ref h_aside, .ref h_best, .ref h_tried, .ref h_kept, .ref h_keptPast, .int keptMany, .int isKept, .ref h_sheets], oc h_now 6 [.ref h_now_0, .ref h_now_1, .ref h_now_2, .ref h_now_3, .int (mn now), .int (ma now), .int (yr now), .int (dw now)], ai G h_now_0 6 (kd now), ai G h_now_1 18 (pl now), ai G h_now_2 6 (lf now), ai G h_now_3 6 (se now)]) [0, 7, 8, 9, 10, 11] rfl
  have hDc := hD.sub (ws' := [oc h 0 [.ref h_kinds, .ref h_now, .ref h_fault, .ref h_tape, .int taped, .int reads, .ref h_got, .ref h_failing, .ref h_past, .int undoMany, .ref h_aside, .ref h_best, .ref h_tried, .ref h_kept, .ref h_keptPast, .int keptMany, .int isKept, .ref h_sheets], oc h_now 6 [.ref h_now_0, .ref h_now_1, .ref h_now_2, .ref h_now_3, .int (mn now), .int (ma now), .int (yr now), .int (dw now)], ai G h_now_0 6 (kd now), ai G h_now_1 18 (pl now), ai G h_now_2 6 (lf now), ai G h_now_3 6 (se now)]) [0, 7, 8, 9, 10, 11] (by decide) rfl
  have hFc := va_free (wc := [oc h 0 [.ref h_kinds, .ref h_now, .ref h_fault, .ref h_tape, .int taped, .int reads, .ref h_got, .ref h_failing, .ref h_past, .int undoMany, .ref h_aside, .ref h_best, .ref h_tried, .ref h_kept, .ref h_keptPast, .int keptMany, .int isKept, .ref h_sheets], oc h_now 6 [.ref h_now_0, .ref h_now_1, .ref h_now_2, .ref h_now_3, .int (mn now), .int (ma now), .int (yr now), .int (dw now)], ai G h_now_0 6 (kd now), ai G h_now_1 18 (pl now), ai G h_now_2 6 (lf now), ai G h_now_3 6 (se now)]) hD hS hA [0, 7, 8, 9, 10, 11] rfl
  refine va_calli (va_runV (As := [.int p1]) (rest := []) ⟨hx, hb, hml, hown, hts⟩ (mt_X0_isMan l G h h_kinds h_now h_fault h_tape h_got h_failing h_past h_aside h_best h_tried h_kept h_keptPast h_sheets h_now_0 h_now_1 h_now_2 h_now_3 s.heap.size taped reads undoMany keptMany isKept now p1 _ hw) (cwV 1 hts (lw_V q336 q338 qs2 q54 q339) rfl rfl rfl (by decide +kernel) ⟨Nat.le_of_ble_eq_true rfl, Nat.le_of_ble_eq_true rfl⟩) ⟨fun a U g mk q => by obtain ⟨q0, q1, qP, qK, qD⟩ := q; exact ⟨q0, q1, qP, qK.call, qD⟩, va_recv hK.1 hP (ci := 0) (q0 := 0) rfl rfl, fun U hU hW => ⟨rfl, by rw [hU], by rw [hU]; exact hPc, hK.warm hW, hDc.weaken (fun _ _ _ _ => trivial)⟩⟩ rfl rfl hl.1 rfl (lv_room (Nat.le_of_ble_eq_true rfl)) dX0_of_2 ⟨Nat.le_of_ble_eq_true rfl, Nat.le_of_ble_eq_true rfl⟩) hS (fun q _ h => hFc q h) hFc (fun r_1 _ t H1 locs ht hvm hw hB hz1 hk1 hS => ?_)
  obtain ⟨hP1, hD1⟩ := hB
  rw [ht] at hP1
  obtain ⟨hP, hD⟩ := va_join (wr := [ar G h_kinds 5 5 [h_kinds_0, h_kinds_1, h_kinds_2, h_kinds_3, h_kinds_4], oc h_kinds_0 1 [], oc h_kinds_1 2 [], oc h_kinds_2 3 [], oc h_kinds_3 4 [], oc h_kinds_4 5 []]) (w1 := [oc h 0 [.ref h_kinds, .ref h_now, .ref h_fault, .ref h_tape, .int taped, .int reads, .ref h_got, .ref h_failing, .ref h_past, .int undoMany, .ref h_aside, .ref h_best, .ref h_tried, .ref h_kept, .ref h_keptPast, .int keptMany, .int isKept, .ref h_sheets], oc h_now 6 [.ref h_now_0, .ref h_now_1, .ref h_now_2, .ref h_now_3, .int (mn now), .int (ma now), .int (yr now), .int (dw now)], ai G h_now_0 6 (kd now), ai G h_now_1 18 (pl now), ai G h_now_2 6 (lf now), ai G h_now_3 6 (se now)]) hP hD [0, 7, 8, 9, 10, 11] [1, 2, 3, 4, 5, 6] rfl rfl (by decide) (by decide) hk1 hFc hP1 hD1
  clear hPc hDc hFc hP1 hD1 hz1 hk1 hvm
  generalize H1 = H at hP hS ⊢
  have hP : va_P G.1 gCl [ar G h_kinds 5 5 [h_kinds_0, h_kinds_1, h_kinds_2, h_kinds_3, h_kinds_4], oc h_kinds_0 1 [], oc h_kinds_1 2 [], oc h_kinds_2 3 [], oc h_kinds_3 4 [], oc h_kinds_4 5 [], oc h 0 [.ref h_kinds, .ref h_now, .ref h_fault, .ref h_tape, .int taped, .int reads, .ref h_got, .ref h_failing, .ref h_past, .int undoMany, .ref h_aside, .ref h_best, .ref h_tried, .ref h_kept, .ref h_keptPast, .int keptMany, .int isKept, .ref h_sheets], oc h_now 6 [.ref h_now_0, .ref h_now_1, .ref h_now_2, .ref h_now_3, .int (mn now), .int (ma now), .int (yr now), .int (dw now)], ai G h_now_0 6 (kd now), ai G h_now_1 18 (pl now), ai G h_now_2 6 (lf now), ai G h_now_3 6 (se now)] H := hP
  have hD : va_D A [ar G h_kinds 5 5 [h_kinds_0, h_kinds_1, h_kinds_2, h_kinds_3, h_kinds_4], oc h_kinds_0 1 [], oc h_kinds_1 2 [], oc h_kinds_2 3 [], oc h_kinds_3 4 [], oc h_kinds_4 5 [], oc h 0 [.ref h_kinds, .ref h_now, .ref h_fault, .ref h_tape, .int taped, .int reads, .ref h_got, .ref h_failing, .ref h_past, .int undoMany, .ref h_aside, .ref h_best, .ref h_tried, .ref h_kept, .ref h_keptPast, .int keptMany, .int isKept, .ref h_sheets], oc h_now 6 [.ref h_now_0, .ref h_now_1, .ref h_now_2, .ref h_now_3, .int (mn now), .int (ma now), .int (yr now), .int (dw now)], ai G h_now_0 6 (kd now), ai G h_now_1 18 (pl now), ai G h_now_2 6 (lf now), ai G h_now_3 6 (se now)] := hD
  refine lv_if_ne (tgt := 10) hx hb dX0_of_5 (by decide) (fun c_2 => ?_) (fun c_2 => ?_)
  · replace hw := hw.1 c_2
    refine lv_iload_n hx hb dX0_of_10 rfl (lv_at hl 2 rfl) ?_
    by_cases c_3 : p2 = (0 : Int32)
    · replace hw := hw.1 c_3
      refine z_tabIn (k := (0 : Int32)) (off := 49) (tgt := 60) hx hb dX0_of_11 c_3 (by decide) rfl (by decide) ?_
      refine lv_aload_n hx hb dX0_of_60 rfl (lv_at hl 0 rfl) ?_
      refine va_get (D := G.1) (ci := 0) (v := .ref h_now) (C := RX0) (T := TX0) (N := 18) hx hb hts in_X0 hown hK.1 hP 6 rfl rfl 1 (by decide) (hts _ q257) (fun _ h9 => h9) rfl dX0_of_61 ?_
      refine va_getN (D := G.1) (ci := 6) (v := .ref h_now_0) (C := RX6) (T := TX6) (N := 8) hx hb hts in_X6 hown hK.1 hP 7 rfl rfl 0 (by decide) (hK.n q128 rfl) (fun _ h9 => h9) rfl dX0_of_64 ?_
      refine lv_iload_n hx hb dX0_of_67 rfl (lv_at hl 1 rfl) ?_
      obtain ⟨i_4, hw⟩ := hw
      refine z_iald hx hb hK.1 hP 8 0 rfl rfl i_4 dX0_of_68 (k := p1.toNatClampNeg) rfl ?_
      have hP9 := hP.sub (ws' := [oc h 0 [.ref h_kinds, .ref h_now, .ref h_fault, .ref h_tape, .int taped, .int reads, .ref h_got, .ref h_failing, .ref h_past, .int undoMany, .ref h_aside, .ref h_best, .ref h_tried, .ref h_kept, .ref h_keptPast, .int keptMany, .int isKept, .ref h_sheets], ar G h_kinds 5 5 [h_kinds_0, h_kinds_1, h_kinds_2, h_kinds_3, h_kinds_4], oc h_kinds_0 1 [], oc h_kinds_1 2 [], oc h_kinds_2 3 [], oc h_kinds_3 4 [], oc h_kinds_4 5 [], oc h_now 6 [.ref h_now_0, .ref h_now_1, .ref h_now_2, .ref h_now_3, .int (mn now), .int (ma now), .int (yr now), .int (dw now)], ai G h_now_0 6 (kd now), ai G h_now_1 18 (pl now), ai G h_now_2 6 (lf now), ai G h_now_3 6 (se now)]) [6, 0, 1, 2, 3, 4, 5, 7, 8, 9, 10, 11] rfl
      have hD9 := hD.sub (ws' := [oc h 0 [.ref h_kinds, .ref h_now, .ref h_fault, .ref h_tape, .int taped, .int reads, .ref h_got, .ref h_failing, .ref h_past, .int undoMany, .ref h_aside, .ref h_best, .ref h_tried, .ref h_kept, .ref h_keptPast, .int keptMany, .int isKept, .ref h_sheets], ar G h_kinds 5 5 [h_kinds_0, h_kinds_1, h_kinds_2, h_kinds_3, h_kinds_4], oc h_kinds_0 1 [], oc h_kinds_1 2 [], oc h_kinds_2 3 [], oc h_kinds_3 4 [], oc h_kinds_4 5 [], oc h_now 6 [.ref h_now_0, .ref h_now_1, .ref h_now_2, .ref h_now_3, .int (mn now), .int (ma now), .int (yr now), .int (dw now)], ai G h_now_0 6 (kd now), ai G h_now_1 18 (pl now), ai G h_now_2 6 (lf now), ai G h_now_3 6 (se now)]) [6, 0, 1, 2, 3, 4, 5, 7, 8, 9, 10, 11] (by decide) rfl
      exact W.iret (v := ((kd now) p1.toNatClampNeg)) hx hb hr (fun t ht hW => ⟨⟨((kd now) p1.toNatClampNeg), (), rfl, hw, by rw [ht]; exact hP9, hD9⟩, hS.F ht⟩) hS.2.2 dX0_of_69
    by_cases c_5 : p2 = (1 : Int32)
    · replace hw := hw.2.1 c_5
      refine z_tabIn (k := (1 : Int32)) (off := 59) (tgt := 70) hx hb dX0_of_11 c_5 (by decide) rfl (by decide) ?_
      refine lv_aload_n hx hb dX0_of_70 rfl (lv_at hl 0 rfl) ?_
      refine va_get (D := G.1) (ci := 0) (v := .ref h_now) (C := RX0) (T := TX0) (N := 18) hx hb hts in_X0 hown hK.1 hP 6 rfl rfl 1 (by decide) (hts _ q257) (fun _ h9 => h9) rfl dX0_of_71 ?_
      refine va_getN (D := G.1) (ci := 6) (v := .ref h_now_2) (C := RX6) (T := TX6) (N := 8) hx hb hts in_X6 hown hK.1 hP 7 rfl rfl 2 (by decide) (hK.n q132 rfl) (fun _ h9 => h9) rfl dX0_of_74 ?_
      refine lv_iload_n hx hb dX0_of_77 rfl (lv_at hl 1 rfl) ?_
      obtain ⟨i_6, hw⟩ := hw
      refine z_iald hx hb hK.1 hP 10 0 rfl rfl i_6 dX0_of_78 (k := p1.toNatClampNeg) rfl ?_
      have hP9 := hP.sub (ws' := [oc h 0 [.ref h_kinds, .ref h_now, .ref h_fault, .ref h_tape, .int taped, .int reads, .ref h_got, .ref h_failing, .ref h_past, .int undoMany, .ref h_aside, .ref h_best, .ref h_tried, .ref h_kept, .ref h_keptPast, .int keptMany, .int isKept, .ref h_sheets], ar G h_kinds 5 5 [h_kinds_0, h_kinds_1, h_kinds_2, h_kinds_3, h_kinds_4], oc h_kinds_0 1 [], oc h_kinds_1 2 [], oc h_kinds_2 3 [], oc h_kinds_3 4 [], oc h_kinds_4 5 [], oc h_now 6 [.ref h_now_0, .ref h_now_1, .ref h_now_2, .ref h_now_3, .int (mn now), .int (ma now), .int (yr now), .int (dw now)], ai G h_now_0 6 (kd now), ai G h_now_1 18 (pl now), ai G h_now_2 6 (lf now), ai G h_now_3 6 (se now)]) [6, 0, 1, 2, 3, 4, 5, 7, 8, 9, 10, 11] rfl
      have hD9 := hD.sub (ws' := [oc h 0 [.ref h_kinds, .ref h_now, .ref h_fault, .ref h_tape, .int taped, .int reads, .ref h_got, .ref h_failing, .ref h_past, .int undoMany, .ref h_aside, .ref h_best, .ref h_tried, .ref h_kept, .ref h_keptPast, .int keptMany, .int isKept, .ref h_sheets], ar G h_kinds 5 5 [h_kinds_0, h_kinds_1, h_kinds_2, h_kinds_3, h_kinds_4], oc h_kinds_0 1 [], oc h_kinds_1 2 [], oc h_kinds_2 3 [], oc h_kinds_3 4 [], oc h_kinds_4 5 [], oc h_now 6 [.ref h_now_0, .ref h_now_1, .ref h_now_2, .ref h_now_3, .int (mn now), .int (ma now), .int (yr now), .int (dw now)], ai G h_now_0 6 (kd now), ai G h_now_1 18 (pl now), ai G h_now_2 6 (lf now), ai G h_now_3 6 (se now)]) [6, 0, 1, 2, 3, 4, 5, 7, 8, 9, 10, 11] (by decide) rfl
      exact W.iret (v := ((lf now) p1.toNatClampNeg)) hx hb hr (fun t ht hW => ⟨⟨((lf now) p1.toNatClampNeg), (), rfl, hw, by rw [ht]; exact hP9, hD9⟩, hS.F ht⟩) hS.2.2 dX0_of_79
    by_cases c_7 : p2 = (2 : Int32)
    · replace hw := hw.2.2.1 c_7
      refine z_tabIn (k := (2 : Int32)) (off := 69) (tgt := 80) hx hb dX0_of_11 c_7 (by decide) rfl (by decide) ?_
      refine lv_aload_n hx hb dX0_of_80 rfl (lv_at hl 0 rfl) ?_
      refine va_get (D := G.1) (ci := 0) (v := .ref h_now) (C := RX0) (T := TX0) (N := 18) hx hb hts in_X0 hown hK.1 hP 6 rfl rfl 1 (by decide) (hts _ q257) (fun _ h9 => h9) rfl dX0_of_81 ?_
      refine lv_iload_n hx hb dX0_of_84 rfl (lv_at hl 1 rfl) ?_
      have hPc := hP.sub (ws' := [oc h_now 6 [.ref h_now_0, .ref h_now_1, .ref h_now_2, .ref h_now_3, .int (mn now), .int (ma now), .int (yr now), .int (dw now)], ai G h_now_0 6 (kd now), ai G h_now_1 18 (pl now), ai G h_now_2 6 (lf now), ai G h_now_3 6 (se now)]) [7, 8, 9, 10, 11] rfl
      have hDc := hD.sub (ws' := [oc h_now 6 [.ref h_now_0, .ref h_now_1, .ref h_now_2, .ref h_now_3, .int (mn now), .int (ma now), .int (yr now), .int (dw now)], ai G h_now_0 6 (kd now), ai G h_now_1 18 (pl now), ai G h_now_2 6 (lf now), ai G h_now_3 6 (se now)]) [7, 8, 9, 10, 11] (by decide) rfl
      have hFc := va_free (wc := [oc h_now 6 [.ref h_now_0, .ref h_now_1, .ref h_now_2, .ref h_now_3, .int (mn now), .int (ma now), .int (yr now), .int (dw now)], ai G h_now_0 6 (kd now), ai G h_now_1 18 (pl now), ai G h_now_2 6 (lf now), ai G h_now_3 6 (se now)]) hD hS hA [7, 8, 9, 10, 11] rfl
      refine va_calli (va_runV (As := [.int p1]) (rest := []) ⟨hx, hb, hml, hown, hts⟩ (mt_X6_seatOf l G h_now h_now_0 h_now_1 h_now_2 h_now_3 H.size now p1 _ hw) (cwV 1 hts (lw_V q350 q351 q352 q60 q353) rfl rfl rfl (by decide +kernel) ⟨Nat.le_of_ble_eq_true rfl, Nat.le_of_ble_eq_true rfl⟩) ⟨fun a U g mk q => by obtain ⟨q0, q1, qP, qK, qD⟩ := q; exact ⟨q0, q1, qP, qK.call, qD⟩, va_recv hK.1 hP (ci := 6) (q0 := 7) rfl rfl, fun U hU hW => ⟨rfl, by rw [hU], by rw [hU]; exact hPc, hK.warm hW, hDc.weaken (fun _ _ _ _ => trivial)⟩⟩ rfl rfl hl.1 rfl (lv_room (Nat.le_of_ble_eq_true rfl)) dX0_of_85 ⟨Nat.le_of_ble_eq_true rfl, Nat.le_of_ble_eq_true rfl⟩) hS (fun q _ h => hFc q h) hFc (fun r_8 _ t H1 locs ht hvm hw hB hz1 hk1 hS => ?_)
      obtain ⟨hP1, hD1⟩ := hB
      rw [ht] at hP1
      obtain ⟨hP, hD⟩ := va_join (wr := [ar G h_kinds 5 5 [h_kinds_0, h_kinds_1, h_kinds_2, h_kinds_3, h_kinds_4], oc h_kinds_0 1 [], oc h_kinds_1 2 [], oc h_kinds_2 3 [], oc h_kinds_3 4 [], oc h_kinds_4 5 [], oc h 0 [.ref h_kinds, .ref h_now, .ref h_fault, .ref h_tape, .int taped, .int reads, .ref h_got, .ref h_failing, .ref h_past, .int undoMany, .ref h_aside, .ref h_best, .ref h_tried, .ref h_kept, .ref h_keptPast, .int keptMany, .int isKept, .ref h_sheets]]) (w1 := [oc h_now 6 [.ref h_now_0, .ref h_now_1, .ref h_now_2, .ref h_now_3, .int (mn now), .int (ma now), .int (yr now), .int (dw now)], ai G h_now_0 6 (kd now), ai G h_now_1 18 (pl now), ai G h_now_2 6 (lf now), ai G h_now_3 6 (se now)]) hP hD [7, 8, 9, 10, 11] [0, 1, 2, 3, 4, 5, 6] rfl rfl (by decide) (by decide) hk1 hFc hP1 hD1
      clear hPc hDc hFc hP1 hD1 hz1 hk1 hvm
      generalize H1 = H at hP hS ⊢
      have hP : va_P G.1 gCl [ar G h_kinds 5 5 [h_kinds_0, h_kinds_1, h_kinds_2, h_kinds_3, h_kinds_4], oc h_kinds_0 1 [], oc h_kinds_1 2 [], oc h_kinds_2 3 [], oc h_kinds_3 4 [], oc h_kinds_4 5 [], oc h 0 [.ref h_kinds, .ref h_now, .ref h_fault, .ref h_tape, .int taped, .int reads, .ref h_got, .ref h_failing, .ref h_past, .int undoMany, .ref h_aside, .ref h_best, .ref h_tried, .ref h_kept, .ref h_keptPast, .int keptMany, .int isKept, .ref h_sheets], oc h_now 6 [.ref h_now_0, .ref h_now_1, .ref h_now_2, .ref h_now_3, .int (mn now), .int (ma now), .int (yr now), .int (dw now)], ai G h_now_0 6 (kd now), ai G h_now_1 18 (pl now), ai G h_now_2 6 (lf now), ai G h_now_3 6 (se now)] H := hP
      have hD : va_D A [ar G h_kinds 5 5 [h_kinds_0, h_kinds_1, h_kinds_2, h_kinds_3, h_kinds_4], oc h_kinds_0 1 [], oc h_kinds_1 2 [], oc h_kinds_2 3 [], oc h_kinds_3 4 [], oc h_kinds_4 5 [], oc h 0 [.ref h_kinds, .ref h_now, .ref h_fault, .ref h_tape, .int taped, .int reads, .ref h_got, .ref h_failing, .ref h_past, .int undoMany, .ref h_aside, .ref h_best, .ref h_tried, .ref h_kept, .ref h_keptPast, .int keptMany, .int isKept, .ref h_sheets], oc h_now 6 [.ref h_now_0, .ref h_now_1, .ref h_now_2, .ref h_now_3, .int (mn now), .int (ma now), .int (yr now), .int (dw now)], ai G h_now_0 6 (kd now), ai G h_now_1 18 (pl now), ai G h_now_2 6 (lf now), ai G h_now_3 6 (se now)] := hD
      have hP9 := hP.sub (ws' := [oc h 0 [.ref h_kinds, .ref h_now, .ref h_fault, .ref h_tape, .int taped, .int reads, .ref h_got, .ref h_failing, .ref h_past, .int undoMany, .ref h_aside, .ref h_best, .ref h_tried, .ref h_kept, .ref h_keptPast, .int keptMany, .int isKept, .ref h_sheets], ar G h_kinds 5 5 [h_kinds_0, h_kinds_1, h_kinds_2, h_kinds_3, h_kinds_4], oc h_kinds_0 1 [], oc h_kinds_1 2 [], oc h_kinds_2 3 [], oc h_kinds_3 4 [], oc h_kinds_4 5 [], oc h_now 6 [.ref h_now_0, .ref h_now_1, .ref h_now_2, .ref h_now_3, .int (mn now), .int (ma now), .int (yr now), .int (dw now)], ai G h_now_0 6 (kd now), ai G h_now_1 18 (pl now), ai G h_now_2 6 (lf now), ai G h_now_3 6 (se now)]) [6, 0, 1, 2, 3, 4, 5, 7, 8, 9, 10, 11] rfl
      have hD9 := hD.sub (ws' := [oc h 0 [.ref h_kinds, .ref h_now, .ref h_fault, .ref h_tape, .int taped, .int reads, .ref h_got, .ref h_failing, .ref h_past, .int undoMany, .ref h_aside, .ref h_best, .ref h_tried, .ref h_kept, .ref h_keptPast, .int keptMany, .int isKept, .ref h_sheets], ar G h_kinds 5 5 [h_kinds_0, h_kinds_1, h_kinds_2, h_kinds_3, h_kinds_4], oc h_kinds_0 1 [], oc h_kinds_1 2 [], oc h_kinds_2 3 [], oc h_kinds_3 4 [], oc h_kinds_4 5 [], oc h_now 6 [.ref h_now_0, .ref h_now_1, .ref h_now_2, .ref h_now_3, .int (mn now), .int (ma now), .int (yr now), .int (dw now)], ai G h_now_0 6 (kd now), ai G h_now_1 18 (pl now), ai G h_now_2 6 (lf now), ai G h_now_3 6 (se now)]) [6, 0, 1, 2, 3, 4, 5, 7, 8, 9, 10, 11] (by decide) rfl
      exact W.iret (v := r_8) hx hb hr (fun t ht hW => ⟨⟨r_8, (), rfl, hw, by rw [ht]; exact hP9, hD9⟩, hS.F ht⟩) hS.2.2 dX0_of_88
    by_cases c_9 : p2 = (3 : Int32)
    · replace hw := hw.2.2.2.1 c_9
      refine z_tabIn (k := (3 : Int32)) (off := 78) (tgt := 89) hx hb dX0_of_11 c_9 (by decide) rfl (by decide) ?_
      refine lv_aload_n hx hb dX0_of_89 rfl (lv_at hl 0 rfl) ?_
      refine va_get (D := G.1) (ci := 0) (v := .ref h_now) (C := RX0) (T := TX0) (N := 18) hx hb hts in_X0 hown hK.1 hP 6 rfl rfl 1 (by decide) (hts _ q257) (fun _ h9 => h9) rfl dX0_of_90 ?_
      refine lv_iload_n hx hb dX0_of_93 rfl (lv_at hl 1 rfl) ?_
      refine lv_iload_n hx hb dX0_of_94 rfl (lv_at hl 2 rfl) ?_
      refine lv_iconst (v := (3 : Int32)) hx hb dX0_of_95 (by decide) ?_
      refine lv_isub hx hb dX0_of_96 ?_
      have hPc := hP.sub (ws' := [oc h_now 6 [.ref h_now_0, .ref h_now_1, .ref h_now_2, .ref h_now_3, .int (mn now), .int (ma now), .int (yr now), .int (dw now)], ai G h_now_0 6 (kd now), ai G h_now_1 18 (pl now), ai G h_now_2 6 (lf now), ai G h_now_3 6 (se now)]) [7, 8, 9, 10, 11] rfl
      have hDc := hD.sub (ws' := [oc h_now 6 [.ref h_now_0, .ref h_now_1, .ref h_now_2, .ref h_now_3, .int (mn now), .int (ma now), .int (yr now), .int (dw now)], ai G h_now_0 6 (kd now), ai G h_now_1 18 (pl now), ai G h_now_2 6 (lf now), ai G h_now_3 6 (se now)]) [7, 8, 9, 10, 11] (by decide) rfl
      have hFc := va_free (wc := [oc h_now 6 [.ref h_now_0, .ref h_now_1, .ref h_now_2, .ref h_now_3, .int (mn now), .int (ma now), .int (yr now), .int (dw now)], ai G h_now_0 6 (kd now), ai G h_now_1 18 (pl now), ai G h_now_2 6 (lf now), ai G h_now_3 6 (se now)]) hD hS hA [7, 8, 9, 10, 11] rfl
      refine va_calli (va_runV (As := [.int p1, .int (p2 - (3 : Int32))]) (rest := []) ⟨hx, hb, hml, hown, hts⟩ (mt_X6_placeOf l G h_now h_now_0 h_now_1 h_now_2 h_now_3 H.size now p1 (p2 - (3 : Int32)) _ hw) (cwV 2 hts (lw_V q345 q325 q326 q60 q327) rfl rfl rfl (by decide +kernel) ⟨Nat.le_of_ble_eq_true rfl, Nat.le_of_ble_eq_true rfl⟩) ⟨fun a U g mk q => by obtain ⟨q0, q1, qP, qK, qD⟩ := q; exact ⟨q0, q1, qP, qK.call, qD⟩, va_recv hK.1 hP (ci := 6) (q0 := 7) rfl rfl, fun U hU hW => ⟨rfl, by rw [hU], by rw [hU]; exact hPc, hK.warm hW, hDc.weaken (fun _ _ _ _ => trivial)⟩⟩ rfl rfl hl.1 rfl (lv_room (Nat.le_of_ble_eq_true rfl)) dX0_of_97 ⟨Nat.le_of_ble_eq_true rfl, Nat.le_of_ble_eq_true rfl⟩) hS (fun q _ h => hFc q h) hFc (fun r_10 _ t H1 locs ht hvm hw hB hz1 hk1 hS => ?_)
      obtain ⟨hP1, hD1⟩ := hB
      rw [ht] at hP1
      obtain ⟨hP, hD⟩ := va_join (wr := [ar G h_kinds 5 5 [h_kinds_0, h_kinds_1, h_kinds_2, h_kinds_3, h_kinds_4], oc h_kinds_0 1 [], oc h_kinds_1 2 [], oc h_kinds_2 3 [], oc h_kinds_3 4 [], oc h_kinds_4 5 [], oc h 0 [.ref h_kinds, .ref h_now, .ref h_fault, .ref h_tape, .int taped, .int reads, .ref h_got, .ref h_failing, .ref h_past, .int undoMany, .ref h_aside, .ref h_best, .ref h_tried, .ref h_kept, .ref h_keptPast, .int keptMany, .int isKept, .ref h_sheets]]) (w1 := [oc h_now 6 [.ref h_now_0, .ref h_now_1, .ref h_now_2, .ref h_now_3, .int (mn now), .int (ma now), .int (yr now), .int (dw now)], ai G h_now_0 6 (kd now), ai G h_now_1 18 (pl now), ai G h_now_2 6 (lf now), ai G h_now_3 6 (se now)]) hP hD [7, 8, 9, 10, 11] [0, 1, 2, 3, 4, 5, 6] rfl rfl (by decide) (by decide) hk1 hFc hP1 hD1
      clear hPc hDc hFc hP1 hD1 hz1 hk1 hvm
      generalize H1 = H at hP hS ⊢
      have hP : va_P G.1 gCl [ar G h_kinds 5 5 [h_kinds_0, h_kinds_1, h_kinds_2, h_kinds_3, h_kinds_4], oc h_kinds_0 1 [], oc h_kinds_1 2 [], oc h_kinds_2 3 [], oc h_kinds_3 4 [], oc h_kinds_4 5 [], oc h 0 [.ref h_kinds, .ref h_now, .ref h_fault, .ref h_tape, .int taped, .int reads, .ref h_got, .ref h_failing, .ref h_past, .int undoMany, .ref h_aside, .ref h_best, .ref h_tried, .ref h_kept, .ref h_keptPast, .int keptMany, .int isKept, .ref h_sheets], oc h_now 6 [.ref h_now_0, .ref h_now_1, .ref h_now_2, .ref h_now_3, .int (mn now), .int (ma now), .int (yr now), .int (dw now)], ai G h_now_0 6 (kd now), ai G h_now_1 18 (pl now), ai G h_now_2 6 (lf now), ai G h_now_3 6 (se now)] H := hP
      have hD : va_D A [ar G h_kinds 5 5 [h_kinds_0, h_kinds_1, h_kinds_2, h_kinds_3, h_kinds_4], oc h_kinds_0 1 [], oc h_kinds_1 2 [], oc h_kinds_2 3 [], oc h_kinds_3 4 [], oc h_kinds_4 5 [], oc h 0 [.ref h_kinds, .ref h_now, .ref h_fault, .ref h_tape, .int taped, .int reads, .ref h_got, .ref h_failing, .ref h_past, .int undoMany, .ref h_aside, .ref h_best, .ref h_tried, .ref h_kept, .ref h_keptPast, .int keptMany, .int isKept, .ref h_sheets], oc h_now 6 [.ref h_now_0, .ref h_now_1, .ref h_now_2, .ref h_now_3, .int (mn now), .int (ma now), .int (yr now), .int (dw now)], ai G h_now_0 6 (kd now), ai G h_now_1 18 (pl now), ai G h_now_2 6 (lf now), ai G h_now_3 6 (se now)] := hD
      have hP9 := hP.sub (ws' := [oc h 0 [.ref h_kinds, .ref h_now, .ref h_fault, .ref h_tape, .int taped, .int reads, .ref h_got, .ref h_failing, .ref h_past, .int undoMany, .ref h_aside, .ref h_best, .ref h_tried, .ref h_kept, .ref h_keptPast, .int keptMany, .int isKept, .ref h_sheets], ar G h_kinds 5 5 [h_kinds_0, h_kinds_1, h_kinds_2, h_kinds_3, h_kinds_4], oc h_kinds_0 1 [], oc h_kinds_1 2 [], oc h_kinds_2 3 [], oc h_kinds_3 4 [], oc h_kinds_4 5 [], oc h_now 6 [.ref h_now_0, .ref h_now_1, .ref h_now_2, .ref h_now_3, .int (mn now), .int (ma now), .int (yr now), .int (dw now)], ai G h_now_0 6 (kd now), ai G h_now_1 18 (pl now), ai G h_now_2 6 (lf now), ai G h_now_3 6 (se now)]) [6, 0, 1, 2, 3, 4, 5, 7, 8, 9, 10, 11] rfl
      have hD9 := hD.sub (ws' := [oc h 0 [.ref h_kinds, .ref h_now, .ref h_fault, .ref h_tape, .int taped, .int reads, .ref h_got, .ref h_failing, .ref h_past, .int undoMany, .ref h_aside, .ref h_best, .ref h_tried, .ref h_kept, .ref h_keptPast, .int keptMany, .int isKept, .ref h_sheets], ar G h_kinds 5 5 [h_kinds_0, h_kinds_1, h_kinds_2, h_kinds_3, h_kinds_4], oc h_kinds_0 1 [], oc h_kinds_1 2 [], oc h_kinds_2 3 [], oc h_kinds_3 4 [], oc h_kinds_4 5 [], oc h_now 6 [.ref h_now_0, .ref h_now_1, .ref h_now_2, .ref h_now_3, .int (mn now), .int (ma now), .int (yr now), .int (dw now)], ai G h_now_0 6 (kd now), ai G h_now_1 18 (pl now), ai G h_now_2 6 (lf now), ai G h_now_3 6 (se now)]) [6, 0, 1, 2, 3, 4, 5, 7, 8, 9, 10, 11] (by decide) rfl
      exact W.iret (v := r_10) hx hb hr (fun t ht hW => ⟨⟨r_10, (), rfl, hw, by rw [ht]; exact hP9, hD9⟩, hS.F ht⟩) hS.2.2 dX0_of_100
    by_cases c_11 : p2 = (4 : Int32)
    · replace hw := hw.2.2.2.2.1 c_11
      refine z_tabIn (k := (4 : Int32)) (off := 78) (tgt := 89) hx hb dX0_of_11 c_11 (by decide) rfl (by decide) ?_
      refine lv_aload_n hx hb dX0_of_89 rfl (lv_at hl 0 rfl) ?_
      refine va_get (D := G.1) (ci := 0) (v := .ref h_now) (C := RX0) (T := TX0) (N := 18) hx hb hts in_X0 hown hK.1 hP 6 rfl rfl 1 (by decide) (hts _ q257) (fun _ h9 => h9) rfl dX0_of_90 ?_
      refine lv_iload_n hx hb dX0_of_93 rfl (lv_at hl 1 rfl) ?_
      refine lv_iload_n hx hb dX0_of_94 rfl (lv_at hl 2 rfl) ?_
      refine lv_iconst (v := (3 : Int32)) hx hb dX0_of_95 (by decide) ?_
      refine lv_isub hx hb dX0_of_96 ?_
      have hPc := hP.sub (ws' := [oc h_now 6 [.ref h_now_0, .ref h_now_1, .ref h_now_2, .ref h_now_3, .int (mn now), .int (ma now), .int (yr now), .int (dw now)], ai G h_now_0 6 (kd now), ai G h_now_1 18 (pl now), ai G h_now_2 6 (lf now), ai G h_now_3 6 (se now)]) [7, 8, 9, 10, 11] rfl
      have hDc := hD.sub (ws' := [oc h_now 6 [.ref h_now_0, .ref h_now_1, .ref h_now_2, .ref h_now_3, .int (mn now), .int (ma now), .int (yr now), .int (dw now)], ai G h_now_0 6 (kd now), ai G h_now_1 18 (pl now), ai G h_now_2 6 (lf now), ai G h_now_3 6 (se now)]) [7, 8, 9, 10, 11] (by decide) rfl
      have hFc := va_free (wc := [oc h_now 6 [.ref h_now_0, .ref h_now_1, .ref h_now_2, .ref h_now_3, .int (mn now), .int (ma now), .int (yr now), .int (dw now)], ai G h_now_0 6 (kd now), ai G h_now_1 18 (pl now), ai G h_now_2 6 (lf now), ai G h_now_3 6 (se now)]) hD hS hA [7, 8, 9, 10, 11] rfl
      refine va_calli (va_runV (As := [.int p1, .int (p2 - (3 : Int32))]) (rest := []) ⟨hx, hb, hml, hown, hts⟩ (mt_X6_placeOf l G h_now h_now_0 h_now_1 h_now_2 h_now_3 H.size now p1 (p2 - (3 : Int32)) _ hw) (cwV 2 hts (lw_V q345 q325 q326 q60 q327) rfl rfl rfl (by decide +kernel) ⟨Nat.le_of_ble_eq_true rfl, Nat.le_of_ble_eq_true rfl⟩) ⟨fun a U g mk q => by obtain ⟨q0, q1, qP, qK, qD⟩ := q; exact ⟨q0, q1, qP, qK.call, qD⟩, va_recv hK.1 hP (ci := 6) (q0 := 7) rfl rfl, fun U hU hW => ⟨rfl, by rw [hU], by rw [hU]; exact hPc, hK.warm hW, hDc.weaken (fun _ _ _ _ => trivial)⟩⟩ rfl rfl hl.1 rfl (lv_room (Nat.le_of_ble_eq_true rfl)) dX0_of_97 ⟨Nat.le_of_ble_eq_true rfl, Nat.le_of_ble_eq_true rfl⟩) hS (fun q _ h => hFc q h) hFc (fun r_12 _ t H1 locs ht hvm hw hB hz1 hk1 hS => ?_)
      obtain ⟨hP1, hD1⟩ := hB
      rw [ht] at hP1
      obtain ⟨hP, hD⟩ := va_join (wr := [ar G h_kinds 5 5 [h_kinds_0, h_kinds_1, h_kinds_2, h_kinds_3, h_kinds_4], oc h_kinds_0 1 [], oc h_kinds_1 2 [], oc h_kinds_2 3 [], oc h_kinds_3 4 [], oc h_kinds_4 5 [], oc h 0 [.ref h_kinds, .ref h_now, .ref h_fault, .ref h_tape, .int taped, .int reads, .ref h_got, .ref h_failing, .ref h_past, .int undoMany, .ref h_aside, .ref h_best, .ref h_tried, .ref h_kept, .ref h_keptPast, .int keptMany, .int isKept, .ref h_sheets]]) (w1 := [oc h_now 6 [.ref h_now_0, .ref h_now_1, .ref h_now_2, .ref h_now_3, .int (mn now), .int (ma now), .int (yr now), .int (dw now)], ai G h_now_0 6 (kd now), ai G h_now_1 18 (pl now), ai G h_now_2 6 (lf now), ai G h_now_3 6 (se now)]) hP hD [7, 8, 9, 10, 11] [0, 1, 2, 3, 4, 5, 6] rfl rfl (by decide) (by decide) hk1 hFc hP1 hD1
      clear hPc hDc hFc hP1 hD1 hz1 hk1 hvm
      generalize H1 = H at hP hS ⊢
      have hP : va_P G.1 gCl [ar G h_kinds 5 5 [h_kinds_0, h_kinds_1, h_kinds_2, h_kinds_3, h_kinds_4], oc h_kinds_0 1 [], oc h_kinds_1 2 [], oc h_kinds_2 3 [], oc h_kinds_3 4 [], oc h_kinds_4 5 [], oc h 0 [.ref h_kinds, .ref h_now, .ref h_fault, .ref h_tape, .int taped, .int reads, .ref h_got, .ref h_failing, .ref h_past, .int undoMany, .ref h_aside, .ref h_best, .ref h_tried, .ref h_kept, .ref h_keptPast, .int keptMany, .int isKept, .ref h_sheets], oc h_now 6 [.ref h_now_0, .ref h_now_1, .ref h_now_2, .ref h_now_3, .int (mn now), .int (ma now), .int (yr now), .int (dw now)], ai G h_now_0 6 (kd now), ai G h_now_1 18 (pl now), ai G h_now_2 6 (lf now), ai G h_now_3 6 (se now)] H := hP
      have hD : va_D A [ar G h_kinds 5 5 [h_kinds_0, h_kinds_1, h_kinds_2, h_kinds_3, h_kinds_4], oc h_kinds_0 1 [], oc h_kinds_1 2 [], oc h_kinds_2 3 [], oc h_kinds_3 4 [], oc h_kinds_4 5 [], oc h 0 [.ref h_kinds, .ref h_now, .ref h_fault, .ref h_tape, .int taped, .int reads, .ref h_got, .ref h_failing, .ref h_past, .int undoMany, .ref h_aside, .ref h_best, .ref h_tried, .ref h_kept, .ref h_keptPast, .int keptMany, .int isKept, .ref h_sheets], oc h_now 6 [.ref h_now_0, .ref h_now_1, .ref h_now_2, .ref h_now_3, .int (mn now), .int (ma now), .int (yr now), .int (dw now)], ai G h_now_0 6 (kd now), ai G h_now_1 18 (pl now), ai G h_now_2 6 (lf now), ai G h_now_3 6 (se now)] := hD
      have hP9 := hP.sub (ws' := [oc h 0 [.ref h_kinds, .ref h_now, .ref h_fault, .ref h_tape, .int taped, .int reads, .ref h_got, .ref h_failing, .ref h_past, .int undoMany, .ref h_aside, .ref h_best, .ref h_tried, .ref h_kept, .ref h_keptPast, .int keptMany, .int isKept, .ref h_sheets], ar G h_kinds 5 5 [h_kinds_0, h_kinds_1, h_kinds_2, h_kinds_3, h_kinds_4], oc h_kinds_0 1 [], oc h_kinds_1 2 [], oc h_kinds_2 3 [], oc h_kinds_3 4 [], oc h_kinds_4 5 [], oc h_now 6 [.ref h_now_0, .ref h_now_1, .ref h_now_2, .ref h_now_3, .int (mn now), .int (ma now), .int (yr now), .int (dw now)], ai G h_now_0 6 (kd now), ai G h_now_1 18 (pl now), ai G h_now_2 6 (lf now), ai G h_now_3 6 (se now)]) [6, 0, 1, 2, 3, 4, 5, 7, 8, 9, 10, 11] rfl
      have hD9 := hD.sub (ws' := [oc h 0 [.ref h_kinds, .ref h_now, .ref h_fault, .ref h_tape, .int taped, .int reads, .ref h_got, .ref h_failing, .ref h_past, .int undoMany, .ref h_aside, .ref h_best, .ref h_tried, .ref h_kept, .ref h_keptPast, .int keptMany, .int isKept, .ref h_sheets], ar G h_kinds 5 5 [h_kinds_0, h_kinds_1, h_kinds_2, h_kinds_3, h_kinds_4], oc h_kinds_0 1 [], oc h_kinds_1 2 [], oc h_kinds_2 3 [], oc h_kinds_3 4 [], oc h_kinds_4 5 [], oc h_now 6 [.ref h_now_0, .ref h_now_1, .ref h_now_2, .ref h_now_3, .int (mn now), .int (ma now), .int (yr now), .int (dw now)], ai G h_now_0 6 (kd now), ai G h_now_1 18 (pl now), ai G h_now_2 6 (lf now), ai G h_now_3 6 (se now)]) [6, 0, 1, 2, 3, 4, 5, 7, 8, 9, 10, 11] (by decide) rfl
      exact W.iret (v := r_12) hx hb hr (fun t ht hW => ⟨⟨r_12, (), rfl, hw, by rw [ht]; exact hP9, hD9⟩, hS.F ht⟩) hS.2.2 dX0_of_100
    by_cases c_13 : p2 = (5 : Int32)
    · replace hw := hw.2.2.2.2.2.1 c_13
      refine z_tabIn (k := (5 : Int32)) (off := 78) (tgt := 89) hx hb dX0_of_11 c_13 (by decide) rfl (by decide) ?_
      refine lv_aload_n hx hb dX0_of_89 rfl (lv_at hl 0 rfl) ?_
      refine va_get (D := G.1) (ci := 0) (v := .ref h_now) (C := RX0) (T := TX0) (N := 18) hx hb hts in_X0 hown hK.1 hP 6 rfl rfl 1 (by decide) (hts _ q257) (fun _ h9 => h9) rfl dX0_of_90 ?_
      refine lv_iload_n hx hb dX0_of_93 rfl (lv_at hl 1 rfl) ?_
      refine lv_iload_n hx hb dX0_of_94 rfl (lv_at hl 2 rfl) ?_
      refine lv_iconst (v := (3 : Int32)) hx hb dX0_of_95 (by decide) ?_
      refine lv_isub hx hb dX0_of_96 ?_
      have hPc := hP.sub (ws' := [oc h_now 6 [.ref h_now_0, .ref h_now_1, .ref h_now_2, .ref h_now_3, .int (mn now), .int (ma now), .int (yr now), .int (dw now)], ai G h_now_0 6 (kd now), ai G h_now_1 18 (pl now), ai G h_now_2 6 (lf now), ai G h_now_3 6 (se now)]) [7, 8, 9, 10, 11] rfl
      have hDc := hD.sub (ws' := [oc h_now 6 [.ref h_now_0, .ref h_now_1, .ref h_now_2, .ref h_now_3, .int (mn now), .int (ma now), .int (yr now), .int (dw now)], ai G h_now_0 6 (kd now), ai G h_now_1 18 (pl now), ai G h_now_2 6 (lf now), ai G h_now_3 6 (se now)]) [7, 8, 9, 10, 11] (by decide) rfl
      have hFc := va_free (wc := [oc h_now 6 [.ref h_now_0, .ref h_now_1, .ref h_now_2, .ref h_now_3, .int (mn now), .int (ma now), .int (yr now), .int (dw now)], ai G h_now_0 6 (kd now), ai G h_now_1 18 (pl now), ai G h_now_2 6 (lf now), ai G h_now_3 6 (se now)]) hD hS hA [7, 8, 9, 10, 11] rfl
      refine va_calli (va_runV (As := [.int p1, .int (p2 - (3 : Int32))]) (rest := []) ⟨hx, hb, hml, hown, hts⟩ (mt_X6_placeOf l G h_now h_now_0 h_now_1 h_now_2 h_now_3 H.size now p1 (p2 - (3 : Int32)) _ hw) (cwV 2 hts (lw_V q345 q325 q326 q60 q327) rfl rfl rfl (by decide +kernel) ⟨Nat.le_of_ble_eq_true rfl, Nat.le_of_ble_eq_true rfl⟩) ⟨fun a U g mk q => by obtain ⟨q0, q1, qP, qK, qD⟩ := q; exact ⟨q0, q1, qP, qK.call, qD⟩, va_recv hK.1 hP (ci := 6) (q0 := 7) rfl rfl, fun U hU hW => ⟨rfl, by rw [hU], by rw [hU]; exact hPc, hK.warm hW, hDc.weaken (fun _ _ _ _ => trivial)⟩⟩ rfl rfl hl.1 rfl (lv_room (Nat.le_of_ble_eq_true rfl)) dX0_of_97 ⟨Nat.le_of_ble_eq_true rfl, Nat.le_of_ble_eq_true rfl⟩) hS (fun q _ h => hFc q h) hFc (fun r_14 _ t H1 locs ht hvm hw hB hz1 hk1 hS => ?_)
      obtain ⟨hP1, hD1⟩ := hB
      rw [ht] at hP1
      obtain ⟨hP, hD⟩ := va_join (wr := [ar G h_kinds 5 5 [h_kinds_0, h_kinds_1, h_kinds_2, h_kinds_3, h_kinds_4], oc h_kinds_0 1 [], oc h_kinds_1 2 [], oc h_kinds_2 3 [], oc h_kinds_3 4 [], oc h_kinds_4 5 [], oc h 0 [.ref h_kinds, .ref h_now, .ref h_fault, .ref h_tape, .int taped, .int reads, .ref h_got, .ref h_failing, .ref h_past, .int undoMany, .ref h_aside, .ref h_best, .ref h_tried, .ref h_kept, .ref h_keptPast, .int keptMany, .int isKept, .ref h_sheets]]) (w1 := [oc h_now 6 [.ref h_now_0, .ref h_now_1, .ref h_now_2, .ref h_now_3, .int (mn now), .int (ma now), .int (yr now), .int (dw now)], ai G h_now_0 6 (kd now), ai G h_now_1 18 (pl now), ai G h_now_2 6 (lf now), ai G h_now_3 6 (se now)]) hP hD [7, 8, 9, 10, 11] [0, 1, 2, 3, 4, 5, 6] rfl rfl (by decide) (by decide) hk1 hFc hP1 hD1
      clear hPc hDc hFc hP1 hD1 hz1 hk1 hvm
      generalize H1 = H at hP hS ⊢
      have hP : va_P G.1 gCl [ar G h_kinds 5 5 [h_kinds_0, h_kinds_1, h_kinds_2, h_kinds_3, h_kinds_4], oc h_kinds_0 1 [], oc h_kinds_1 2 [], oc h_kinds_2 3 [], oc h_kinds_3 4 [], oc h_kinds_4 5 [], oc h 0 [.ref h_kinds, .ref h_now, .ref h_fault, .ref h_tape, .int taped, .int reads, .ref h_got, .ref h_failing, .ref h_past, .int undoMany, .ref h_aside, .ref h_best, .ref h_tried, .ref h_kept, .ref h_keptPast, .int keptMany, .int isKept, .ref h_sheets], oc h_now 6 [.ref h_now_0, .ref h_now_1, .ref h_now_2, .ref h_now_3, .int (mn now), .int (ma now), .int (yr now), .int (dw now)], ai G h_now_0 6 (kd now), ai G h_now_1 18 (pl now), ai G h_now_2 6 (lf now), ai G h_now_3 6 (se now)] H := hP
      have hD : va_D A [ar G h_kinds 5 5 [h_kinds_0, h_kinds_1, h_kinds_2, h_kinds_3, h_kinds_4], oc h_kinds_0 1 [], oc h_kinds_1 2 [], oc h_kinds_2 3 [], oc h_kinds_3 4 [], oc h_kinds_4 5 [], oc h 0 [.ref h_kinds, .ref h_now, .ref h_fault, .ref h_tape, .int taped, .int reads, .ref h_got, .ref h_failing, .ref h_past, .int undoMany, .ref h_aside, .ref h_best, .ref h_tried, .ref h_kept, .ref h_keptPast, .int keptMany, .int isKept, .ref h_sheets], oc h_now 6 [.ref h_now_0, .ref h_now_1, .ref h_now_2, .ref h_now_3, .int (mn now), .int (ma now), .int (yr now), .int (dw now)], ai G h_now_0 6 (kd now), ai G h_now_1 18 (pl now), ai G h_now_2 6 (lf now), ai G h_now_3 6 (se now)] := hD
      have hP9 := hP.sub (ws' := [oc h 0 [.ref h_kinds, .ref h_now, .ref h_fault, .ref h_tape, .int taped, .int reads, .ref h_got, .ref h_failing, .ref h_past, .int undoMany, .ref h_aside, .ref h_best, .ref h_tried, .ref h_kept, .ref h_keptPast, .int keptMany, .int isKept, .ref h_sheets], ar G h_kinds 5 5 [h_kinds_0, h_kinds_1, h_kinds_2, h_kinds_3, h_kinds_4], oc h_kinds_0 1 [], oc h_kinds_1 2 [], oc h_kinds_2 3 [], oc h_kinds_3 4 [], oc h_kinds_4 5 [], oc h_now 6 [.ref h_now_0, .ref h_now_1, .ref h_now_2, .ref h_now_3, .int (mn now), .int (ma now), .int (yr now), .int (dw now)], ai G h_now_0 6 (kd now), ai G h_now_1 18 (pl now), ai G h_now_2 6 (lf now), ai G h_now_3 6 (se now)]) [6, 0, 1, 2, 3, 4, 5, 7, 8, 9, 10, 11] rfl
      have hD9 := hD.sub (ws' := [oc h 0 [.ref h_kinds, .ref h_now, .ref h_fault, .ref h_tape, .int taped, .int reads, .ref h_got, .ref h_failing, .ref h_past, .int undoMany, .ref h_aside, .ref h_best, .ref h_tried, .ref h_kept, .ref h_keptPast, .int keptMany, .int isKept, .ref h_sheets], ar G h_kinds 5 5 [h_kinds_0, h_kinds_1, h_kinds_2, h_kinds_3, h_kinds_4], oc h_kinds_0 1 [], oc h_kinds_1 2 [], oc h_kinds_2 3 [], oc h_kinds_3 4 [], oc h_kinds_4 5 [], oc h_now 6 [.ref h_now_0, .ref h_now_1, .ref h_now_2, .ref h_now_3, .int (mn now), .int (ma now), .int (yr now), .int (dw now)], ai G h_now_0 6 (kd now), ai G h_now_1 18 (pl now), ai G h_now_2 6 (lf now), ai G h_now_3 6 (se now)]) [6, 0, 1, 2, 3, 4, 5, 7, 8, 9, 10, 11] (by decide) rfl
      exact W.iret (v := r_14) hx hb hr (fun t ht hW => ⟨⟨r_14, (), rfl, hw, by rw [ht]; exact hP9, hD9⟩, hS.F ht⟩) hS.2.2 dX0_of_100
    by_cases c_15 : p2 = (6 : Int32)
    · replace hw := hw.2.2.2.2.2.2.1 c_15
      refine z_tabIn (k := (6 : Int32)) (off := 90) (tgt := 101) hx hb dX0_of_11 c_15 (by decide) rfl (by decide) ?_
      refine lv_aload_n hx hb dX0_of_101 rfl (lv_at hl 0 rfl) ?_
      refine va_get (D := G.1) (ci := 0) (v := .ref h_now) (C := RX0) (T := TX0) (N := 18) hx hb hts in_X0 hown hK.1 hP 6 rfl rfl 1 (by decide) (hts _ q257) (fun _ h9 => h9) rfl dX0_of_102 ?_
      refine lv_iload_n hx hb dX0_of_105 rfl (lv_at hl 1 rfl) ?_
      have hPc := hP.sub (ws' := [oc h_now 6 [.ref h_now_0, .ref h_now_1, .ref h_now_2, .ref h_now_3, .int (mn now), .int (ma now), .int (yr now), .int (dw now)], ai G h_now_0 6 (kd now), ai G h_now_1 18 (pl now), ai G h_now_2 6 (lf now), ai G h_now_3 6 (se now)]) [7, 8, 9, 10, 11] rfl
      have hDc := hD.sub (ws' := [oc h_now 6 [.ref h_now_0, .ref h_now_1, .ref h_now_2, .ref h_now_3, .int (mn now), .int (ma now), .int (yr now), .int (dw now)], ai G h_now_0 6 (kd now), ai G h_now_1 18 (pl now), ai G h_now_2 6 (lf now), ai G h_now_3 6 (se now)]) [7, 8, 9, 10, 11] (by decide) rfl
      have hFc := va_free (wc := [oc h_now 6 [.ref h_now_0, .ref h_now_1, .ref h_now_2, .ref h_now_3, .int (mn now), .int (ma now), .int (yr now), .int (dw now)], ai G h_now_0 6 (kd now), ai G h_now_1 18 (pl now), ai G h_now_2 6 (lf now), ai G h_now_3 6 (se now)]) hD hS hA [7, 8, 9, 10, 11] rfl
      refine va_calli (va_runV (As := [.int p1]) (rest := []) ⟨hx, hb, hml, hown, hts⟩ (mt_X6_stoodSet l G h_now h_now_0 h_now_1 h_now_2 h_now_3 H.size now p1 _ hw) (cwV 1 hts (lw_V q354 q355 q356 q60 q357) rfl rfl rfl (by decide +kernel) ⟨Nat.le_of_ble_eq_true rfl, Nat.le_of_ble_eq_true rfl⟩) ⟨fun a U g mk q => by obtain ⟨q0, q1, qP, qK, qD⟩ := q; exact ⟨q0, q1, qP, qK.call, qD⟩, va_recv hK.1 hP (ci := 6) (q0 := 7) rfl rfl, fun U hU hW => ⟨rfl, by rw [hU], by rw [hU]; exact hPc, hK.warm hW, hDc.weaken (fun _ _ _ _ => trivial)⟩⟩ rfl rfl hl.1 rfl (lv_room (Nat.le_of_ble_eq_true rfl)) dX0_of_106 ⟨Nat.le_of_ble_eq_true rfl, Nat.le_of_ble_eq_true rfl⟩) hS (fun q _ h => hFc q h) hFc (fun r_16 _ t H1 locs ht hvm hw hB hz1 hk1 hS => ?_)
      obtain ⟨hP1, hD1⟩ := hB
      rw [ht] at hP1
      obtain ⟨hP, hD⟩ := va_join (wr := [ar G h_kinds 5 5 [h_kinds_0, h_kinds_1, h_kinds_2, h_kinds_3, h_kinds_4], oc h_kinds_0 1 [], oc h_kinds_1 2 [], oc h_kinds_2 3 [], oc h_kinds_3 4 [], oc h_kinds_4 5 [], oc h 0 [.ref h_kinds, .ref h_now, .ref h_fault, .ref h_tape, .int taped, .int reads, .ref h_got, .ref h_failing, .ref h_past, .int undoMany, .ref h_aside, .ref h_best, .ref h_tried, .ref h_kept, .ref h_keptPast, .int keptMany, .int isKept, .ref h_sheets]]) (w1 := [oc h_now 6 [.ref h_now_0, .ref h_now_1, .ref h_now_2, .ref h_now_3, .int (mn now), .int (ma now), .int (yr now), .int (dw now)], ai G h_now_0 6 (kd now), ai G h_now_1 18 (pl now), ai G h_now_2 6 (lf now), ai G h_now_3 6 (se now)]) hP hD [7, 8, 9, 10, 11] [0, 1, 2, 3, 4, 5, 6] rfl rfl (by decide) (by decide) hk1 hFc hP1 hD1
      clear hPc hDc hFc hP1 hD1 hz1 hk1 hvm
      generalize H1 = H at hP hS ⊢
      have hP : va_P G.1 gCl [ar G h_kinds 5 5 [h_kinds_0, h_kinds_1, h_kinds_2, h_kinds_3, h_kinds_4], oc h_kinds_0 1 [], oc h_kinds_1 2 [], oc h_kinds_2 3 [], oc h_kinds_3 4 [], oc h_kinds_4 5 [], oc h 0 [.ref h_kinds, .ref h_now, .ref h_fault, .ref h_tape, .int taped, .int reads, .ref h_got, .ref h_failing, .ref h_past, .int undoMany, .ref h_aside, .ref h_best, .ref h_tried, .ref h_kept, .ref h_keptPast, .int keptMany, .int isKept, .ref h_sheets], oc h_now 6 [.ref h_now_0, .ref h_now_1, .ref h_now_2, .ref h_now_3, .int (mn now), .int (ma now), .int (yr now), .int (dw now)], ai G h_now_0 6 (kd now), ai G h_now_1 18 (pl now), ai G h_now_2 6 (lf now), ai G h_now_3 6 (se now)] H := hP
      have hD : va_D A [ar G h_kinds 5 5 [h_kinds_0, h_kinds_1, h_kinds_2, h_kinds_3, h_kinds_4], oc h_kinds_0 1 [], oc h_kinds_1 2 [], oc h_kinds_2 3 [], oc h_kinds_3 4 [], oc h_kinds_4 5 [], oc h 0 [.ref h_kinds, .ref h_now, .ref h_fault, .ref h_tape, .int taped, .int reads, .ref h_got, .ref h_failing, .ref h_past, .int undoMany, .ref h_aside, .ref h_best, .ref h_tried, .ref h_kept, .ref h_keptPast, .int keptMany, .int isKept, .ref h_sheets], oc h_now 6 [.ref h_now_0, .ref h_now_1, .ref h_now_2, .ref h_now_3, .int (mn now), .int (ma now), .int (yr now), .int (dw now)], ai G h_now_0 6 (kd now), ai G h_now_1 18 (pl now), ai G h_now_2 6 (lf now), ai G h_now_3 6 (se now)] := hD
      have hP9 := hP.sub (ws' := [oc h 0 [.ref h_kinds, .ref h_now, .ref h_fault, .ref h_tape, .int taped, .int reads, .ref h_got, .ref h_failing, .ref h_past, .int undoMany, .ref h_aside, .ref h_best, .ref h_tried, .ref h_kept, .ref h_keptPast, .int keptMany, .int isKept, .ref h_sheets], ar G h_kinds 5 5 [h_kinds_0, h_kinds_1, h_kinds_2, h_kinds_3, h_kinds_4], oc h_kinds_0 1 [], oc h_kinds_1 2 [], oc h_kinds_2 3 [], oc h_kinds_3 4 [], oc h_kinds_4 5 [], oc h_now 6 [.ref h_now_0, .ref h_now_1, .ref h_now_2, .ref h_now_3, .int (mn now), .int (ma now), .int (yr now), .int (dw now)], ai G h_now_0 6 (kd now), ai G h_now_1 18 (pl now), ai G h_now_2 6 (lf now), ai G h_now_3 6 (se now)]) [6, 0, 1, 2, 3, 4, 5, 7, 8, 9, 10, 11] rfl
      have hD9 := hD.sub (ws' := [oc h 0 [.ref h_kinds, .ref h_now, .ref h_fault, .ref h_tape, .int taped, .int reads, .ref h_got, .ref h_failing, .ref h_past, .int undoMany, .ref h_aside, .ref h_best, .ref h_tried, .ref h_kept, .ref h_keptPast, .int keptMany, .int isKept, .ref h_sheets], ar G h_kinds 5 5 [h_kinds_0, h_kinds_1, h_kinds_2, h_kinds_3, h_kinds_4], oc h_kinds_0 1 [], oc h_kinds_1 2 [], oc h_kinds_2 3 [], oc h_kinds_3 4 [], oc h_kinds_4 5 [], oc h_now 6 [.ref h_now_0, .ref h_now_1, .ref h_now_2, .ref h_now_3, .int (mn now), .int (ma now), .int (yr now), .int (dw now)], ai G h_now_0 6 (kd now), ai G h_now_1 18 (pl now), ai G h_now_2 6 (lf now), ai G h_now_3 6 (se now)]) [6, 0, 1, 2, 3, 4, 5, 7, 8, 9, 10, 11] (by decide) rfl
      exact W.iret (v := r_16) hx hb hr (fun t ht hW => ⟨⟨r_16, (), rfl, hw, by rw [ht]; exact hP9, hD9⟩, hS.F ht⟩) hS.2.2 dX0_of_109
    by_cases c_17 : p2 = (7 : Int32)
    · replace hw := hw.2.2.2.2.2.2.2.1 c_17
      refine z_tabIn (k := (7 : Int32)) (off := 99) (tgt := 110) hx hb dX0_of_11 c_17 (by decide) rfl (by decide) ?_
      refine lv_aload_n hx hb dX0_of_110 rfl (lv_at hl 0 rfl) ?_
      refine va_get (D := G.1) (ci := 0) (v := .ref h_now) (C := RX0) (T := TX0) (N := 18) hx hb hts in_X0 hown hK.1 hP 6 rfl rfl 1 (by decide) (hts _ q257) (fun _ h9 => h9) rfl dX0_of_111 ?_
      refine lv_iload_n hx hb dX0_of_114 rfl (lv_at hl 1 rfl) ?_
      have hPc := hP.sub (ws' := [oc h_now 6 [.ref h_now_0, .ref h_now_1, .ref h_now_2, .ref h_now_3, .int (mn now), .int (ma now), .int (yr now), .int (dw now)], ai G h_now_0 6 (kd now), ai G h_now_1 18 (pl now), ai G h_now_2 6 (lf now), ai G h_now_3 6 (se now)]) [7, 8, 9, 10, 11] rfl
      have hDc := hD.sub (ws' := [oc h_now 6 [.ref h_now_0, .ref h_now_1, .ref h_now_2, .ref h_now_3, .int (mn now), .int (ma now), .int (yr now), .int (dw now)], ai G h_now_0 6 (kd now), ai G h_now_1 18 (pl now), ai G h_now_2 6 (lf now), ai G h_now_3 6 (se now)]) [7, 8, 9, 10, 11] (by decide) rfl
      have hFc := va_free (wc := [oc h_now 6 [.ref h_now_0, .ref h_now_1, .ref h_now_2, .ref h_now_3, .int (mn now), .int (ma now), .int (yr now), .int (dw now)], ai G h_now_0 6 (kd now), ai G h_now_1 18 (pl now), ai G h_now_2 6 (lf now), ai G h_now_3 6 (se now)]) hD hS hA [7, 8, 9, 10, 11] rfl
      refine va_calli (va_runV (As := [.int p1]) (rest := []) ⟨hx, hb, hml, hown, hts⟩ (mt_X6_sitSet l G h_now h_now_0 h_now_1 h_now_2 h_now_3 H.size now p1 _ hw) (cwV 1 hts (lw_V q373 q374 q375 q60 q376) rfl rfl rfl (by decide +kernel) ⟨Nat.le_of_ble_eq_true rfl, Nat.le_of_ble_eq_true rfl⟩) ⟨fun a U g mk q => by obtain ⟨q0, q1, qP, qK, qD⟩ := q; exact ⟨q0, q1, qP, qK.call, qD⟩, va_recv hK.1 hP (ci := 6) (q0 := 7) rfl rfl, fun U hU hW => ⟨rfl, by rw [hU], by rw [hU]; exact hPc, hK.warm hW, hDc.weaken (fun _ _ _ _ => trivial)⟩⟩ rfl rfl hl.1 rfl (lv_room (Nat.le_of_ble_eq_true rfl)) dX0_of_115 ⟨Nat.le_of_ble_eq_true rfl, Nat.le_of_ble_eq_true rfl⟩) hS (fun q _ h => hFc q h) hFc (fun r_18 _ t H1 locs ht hvm hw hB hz1 hk1 hS => ?_)
      obtain ⟨hP1, hD1⟩ := hB
      rw [ht] at hP1
      obtain ⟨hP, hD⟩ := va_join (wr := [ar G h_kinds 5 5 [h_kinds_0, h_kinds_1, h_kinds_2, h_kinds_3, h_kinds_4], oc h_kinds_0 1 [], oc h_kinds_1 2 [], oc h_kinds_2 3 [], oc h_kinds_3 4 [], oc h_kinds_4 5 [], oc h 0 [.ref h_kinds, .ref h_now, .ref h_fault, .ref h_tape, .int taped, .int reads, .ref h_got, .ref h_failing, .ref h_past, .int undoMany, .ref h_aside, .ref h_best, .ref h_tried, .ref h_kept, .ref h_keptPast, .int keptMany, .int isKept, .ref h_sheets]]) (w1 := [oc h_now 6 [.ref h_now_0, .ref h_now_1, .ref h_now_2, .ref h_now_3, .int (mn now), .int (ma now), .int (yr now), .int (dw now)], ai G h_now_0 6 (kd now), ai G h_now_1 18 (pl now), ai G h_now_2 6 (lf now), ai G h_now_3 6 (se now)]) hP hD [7, 8, 9, 10, 11] [0, 1, 2, 3, 4, 5, 6] rfl rfl (by decide) (by decide) hk1 hFc hP1 hD1
      clear hPc hDc hFc hP1 hD1 hz1 hk1 hvm
      generalize H1 = H at hP hS ⊢
      have hP : va_P G.1 gCl [ar G h_kinds 5 5 [h_kinds_0, h_kinds_1, h_kinds_2, h_kinds_3, h_kinds_4], oc h_kinds_0 1 [], oc h_kinds_1 2 [], oc h_kinds_2 3 [], oc h_kinds_3 4 [], oc h_kinds_4 5 [], oc h 0 [.ref h_kinds, .ref h_now, .ref h_fault, .ref h_tape, .int taped, .int reads, .ref h_got, .ref h_failing, .ref h_past, .int undoMany, .ref h_aside, .ref h_best, .ref h_tried, .ref h_kept, .ref h_keptPast, .int keptMany, .int isKept, .ref h_sheets], oc h_now 6 [.ref h_now_0, .ref h_now_1, .ref h_now_2, .ref h_now_3, .int (mn now), .int (ma now), .int (yr now), .int (dw now)], ai G h_now_0 6 (kd now), ai G h_now_1 18 (pl now), ai G h_now_2 6 (lf now), ai G h_now_3 6 (se now)] H := hP
      have hD : va_D A [ar G h_kinds 5 5 [h_kinds_0, h_kinds_1, h_kinds_2, h_kinds_3, h_kinds_4], oc h_kinds_0 1 [], oc h_kinds_1 2 [], oc h_kinds_2 3 [], oc h_kinds_3 4 [], oc h_kinds_4 5 [], oc h 0 [.ref h_kinds, .ref h_now, .ref h_fault, .ref h_tape, .int taped, .int reads, .ref h_got, .ref h_failing, .ref h_past, .int undoMany, .ref h_aside, .ref h_best, .ref h_tried, .ref h_kept, .ref h_keptPast, .int keptMany, .int isKept, .ref h_sheets], oc h_now 6 [.ref h_now_0, .ref h_now_1, .ref h_now_2, .ref h_now_3, .int (mn now), .int (ma now), .int (yr now), .int (dw now)], ai G h_now_0 6 (kd now), ai G h_now_1 18 (pl now), ai G h_now_2 6 (lf now), ai G h_now_3 6 (se now)] := hD
      have hP9 := hP.sub (ws' := [oc h 0 [.ref h_kinds, .ref h_now, .ref h_fault, .ref h_tape, .int taped, .int reads, .ref h_got, .ref h_failing, .ref h_past, .int undoMany, .ref h_aside, .ref h_best, .ref h_tried, .ref h_kept, .ref h_keptPast, .int keptMany, .int isKept, .ref h_sheets], ar G h_kinds 5 5 [h_kinds_0, h_kinds_1, h_kinds_2, h_kinds_3, h_kinds_4], oc h_kinds_0 1 [], oc h_kinds_1 2 [], oc h_kinds_2 3 [], oc h_kinds_3 4 [], oc h_kinds_4 5 [], oc h_now 6 [.ref h_now_0, .ref h_now_1, .ref h_now_2, .ref h_now_3, .int (mn now), .int (ma now), .int (yr now), .int (dw now)], ai G h_now_0 6 (kd now), ai G h_now_1 18 (pl now), ai G h_now_2 6 (lf now), ai G h_now_3 6 (se now)]) [6, 0, 1, 2, 3, 4, 5, 7, 8, 9, 10, 11] rfl
      have hD9 := hD.sub (ws' := [oc h 0 [.ref h_kinds, .ref h_now, .ref h_fault, .ref h_tape, .int taped, .int reads, .ref h_got, .ref h_failing, .ref h_past, .int undoMany, .ref h_aside, .ref h_best, .ref h_tried, .ref h_kept, .ref h_keptPast, .int keptMany, .int isKept, .ref h_sheets], ar G h_kinds 5 5 [h_kinds_0, h_kinds_1, h_kinds_2, h_kinds_3, h_kinds_4], oc h_kinds_0 1 [], oc h_kinds_1 2 [], oc h_kinds_2 3 [], oc h_kinds_3 4 [], oc h_kinds_4 5 [], oc h_now 6 [.ref h_now_0, .ref h_now_1, .ref h_now_2, .ref h_now_3, .int (mn now), .int (ma now), .int (yr now), .int (dw now)], ai G h_now_0 6 (kd now), ai G h_now_1 18 (pl now), ai G h_now_2 6 (lf now), ai G h_now_3 6 (se now)]) [6, 0, 1, 2, 3, 4, 5, 7, 8, 9, 10, 11] (by decide) rfl
      exact W.iret (v := r_18) hx hb hr (fun t ht hW => ⟨⟨r_18, (), rfl, hw, by rw [ht]; exact hP9, hD9⟩, hS.F ht⟩) hS.2.2 dX0_of_118
    by_cases c_19 : p2 = (8 : Int32)
    · replace hw := hw.2.2.2.2.2.2.2.2.1 c_19
      refine z_tabIn (k := (8 : Int32)) (off := 108) (tgt := 119) hx hb dX0_of_11 c_19 (by decide) rfl (by decide) ?_
      refine lv_aload_n hx hb dX0_of_119 rfl (lv_at hl 0 rfl) ?_
      refine lv_iload_n hx hb dX0_of_120 rfl (lv_at hl 1 rfl) ?_
      have hPc := hP.sub (ws' := [oc h 0 [.ref h_kinds, .ref h_now, .ref h_fault, .ref h_tape, .int taped, .int reads, .ref h_got, .ref h_failing, .ref h_past, .int undoMany, .ref h_aside, .ref h_best, .ref h_tried, .ref h_kept, .ref h_keptPast, .int keptMany, .int isKept, .ref h_sheets], ar G h_kinds 5 5 [h_kinds_0, h_kinds_1, h_kinds_2, h_kinds_3, h_kinds_4], oc h_kinds_0 1 [], oc h_kinds_1 2 [], oc h_kinds_2 3 [], oc h_kinds_3 4 [], oc h_kinds_4 5 [], oc h_now 6 [.ref h_now_0, .ref h_now_1, .ref h_now_2, .ref h_now_3, .int (mn now), .int (ma now), .int (yr now), .int (dw now)], ai G h_now_0 6 (kd now), ai G h_now_1 18 (pl now), ai G h_now_2 6 (lf now), ai G h_now_3 6 (se now)]) [6, 0, 1, 2, 3, 4, 5, 7, 8, 9, 10, 11] rfl
      have hDc := hD.sub (ws' := [oc h 0 [.ref h_kinds, .ref h_now, .ref h_fault, .ref h_tape, .int taped, .int reads, .ref h_got, .ref h_failing, .ref h_past, .int undoMany, .ref h_aside, .ref h_best, .ref h_tried, .ref h_kept, .ref h_keptPast, .int keptMany, .int isKept, .ref h_sheets], ar G h_kinds 5 5 [h_kinds_0, h_kinds_1, h_kinds_2, h_kinds_3, h_kinds_4], oc h_kinds_0 1 [], oc h_kinds_1 2 [], oc h_kinds_2 3 [], oc h_kinds_3 4 [], oc h_kinds_4 5 [], oc h_now 6 [.ref h_now_0, .ref h_now_1, .ref h_now_2, .ref h_now_3, .int (mn now), .int (ma now), .int (yr now), .int (dw now)], ai G h_now_0 6 (kd now), ai G h_now_1 18 (pl now), ai G h_now_2 6 (lf now), ai G h_now_3 6 (se now)]) [6, 0, 1, 2, 3, 4, 5, 7, 8, 9, 10, 11] (by decide) rfl
      have hFc := va_free (wc := [oc h 0 [.ref h_kinds, .ref h_now, .ref h_fault, .ref h_tape, .int taped, .int reads, .ref h_got, .ref h_failing, .ref h_past, .int undoMany, .ref h_aside, .ref h_best, .ref h_tried, .ref h_kept, .ref h_keptPast, .int keptMany, .int isKept, .ref h_sheets], ar G h_kinds 5 5 [h_kinds_0, h_kinds_1, h_kinds_2, h_kinds_3, h_kinds_4], oc h_kinds_0 1 [], oc h_kinds_1 2 [], oc h_kinds_2 3 [], oc h_kinds_3 4 [], oc h_kinds_4 5 [], oc h_now 6 [.ref h_now_0, .ref h_now_1, .ref h_now_2, .ref h_now_3, .int (mn now), .int (ma now), .int (yr now), .int (dw now)], ai G h_now_0 6 (kd now), ai G h_now_1 18 (pl now), ai G h_now_2 6 (lf now), ai G h_now_3 6 (se now)]) hD hS hA [6, 0, 1, 2, 3, 4, 5, 7, 8, 9, 10, 11] rfl
      refine va_calli (va_runV (As := [.int p1]) (rest := []) ⟨hx, hb, hml, hown, hts⟩ (mt_X0_failsOf l G h h_kinds h_now h_fault h_tape h_got h_failing h_past h_aside h_best h_tried h_kept h_keptPast h_sheets h_kinds_0 h_kinds_1 h_kinds_2 h_kinds_3 h_kinds_4 h_now_0 h_now_1 h_now_2 h_now_3 H.size taped reads undoMany keptMany isKept now p1 _ hw) (cwV 1 hts (lw_V q378 q380 qs3 q54 q381) rfl rfl rfl (by decide +kernel) ⟨Nat.le_of_ble_eq_true rfl, Nat.le_of_ble_eq_true rfl⟩) ⟨fun a U g mk q => by obtain ⟨q0, q1, qP, qK, qD⟩ := q; exact ⟨q0, q1, qP, qK.call, qD⟩, va_recv hK.1 hP (ci := 0) (q0 := 6) rfl rfl, fun U hU hW => ⟨rfl, by rw [hU], by rw [hU]; exact hPc, hK.warm hW, hDc.weaken (fun _ _ _ _ => trivial)⟩⟩ rfl rfl hl.1 rfl (lv_room (Nat.le_of_ble_eq_true rfl)) dX0_of_121 ⟨Nat.le_of_ble_eq_true rfl, Nat.le_of_ble_eq_true rfl⟩) hS (fun q _ h => hFc q h) hFc (fun r_20 _ t H1 locs ht hvm hw hB hz1 hk1 hS => ?_)
      obtain ⟨hP1, hD1⟩ := hB
      rw [ht] at hP1
      obtain ⟨hP, hD⟩ := va_join (wr := []) (w1 := [oc h 0 [.ref h_kinds, .ref h_now, .ref h_fault, .ref h_tape, .int taped, .int reads, .ref h_got, .ref h_failing, .ref h_past, .int undoMany, .ref h_aside, .ref h_best, .ref h_tried, .ref h_kept, .ref h_keptPast, .int keptMany, .int isKept, .ref h_sheets], ar G h_kinds 5 5 [h_kinds_0, h_kinds_1, h_kinds_2, h_kinds_3, h_kinds_4], oc h_kinds_0 1 [], oc h_kinds_1 2 [], oc h_kinds_2 3 [], oc h_kinds_3 4 [], oc h_kinds_4 5 [], oc h_now 6 [.ref h_now_0, .ref h_now_1, .ref h_now_2, .ref h_now_3, .int (mn now), .int (ma now), .int (yr now), .int (dw now)], ai G h_now_0 6 (kd now), ai G h_now_1 18 (pl now), ai G h_now_2 6 (lf now), ai G h_now_3 6 (se now)]) hP hD [6, 0, 1, 2, 3, 4, 5, 7, 8, 9, 10, 11] [] rfl rfl (by decide) (by decide) hk1 hFc hP1 hD1
      clear hPc hDc hFc hP1 hD1 hz1 hk1 hvm
      generalize H1 = H at hP hS ⊢
      have hP : va_P G.1 gCl [oc h 0 [.ref h_kinds, .ref h_now, .ref h_fault, .ref h_tape, .int taped, .int reads, .ref h_got, .ref h_failing, .ref h_past, .int undoMany, .ref h_aside, .ref h_best, .ref h_tried, .ref h_kept, .ref h_keptPast, .int keptMany, .int isKept, .ref h_sheets], ar G h_kinds 5 5 [h_kinds_0, h_kinds_1, h_kinds_2, h_kinds_3, h_kinds_4], oc h_kinds_0 1 [], oc h_kinds_1 2 [], oc h_kinds_2 3 [], oc h_kinds_3 4 [], oc h_kinds_4 5 [], oc h_now 6 [.ref h_now_0, .ref h_now_1, .ref h_now_2, .ref h_now_3, .int (mn now), .int (ma now), .int (yr now), .int (dw now)], ai G h_now_0 6 (kd now), ai G h_now_1 18 (pl now), ai G h_now_2 6 (lf now), ai G h_now_3 6 (se now)] H := hP
      have hD : va_D A [oc h 0 [.ref h_kinds, .ref h_now, .ref h_fault, .ref h_tape, .int taped, .int reads, .ref h_got, .ref h_failing, .ref h_past, .int undoMany, .ref h_aside, .ref h_best, .ref h_tried, .ref h_kept, .ref h_keptPast, .int keptMany, .int isKept, .ref h_sheets], ar G h_kinds 5 5 [h_kinds_0, h_kinds_1, h_kinds_2, h_kinds_3, h_kinds_4], oc h_kinds_0 1 [], oc h_kinds_1 2 [], oc h_kinds_2 3 [], oc h_kinds_3 4 [], oc h_kinds_4 5 [], oc h_now 6 [.ref h_now_0, .ref h_now_1, .ref h_now_2, .ref h_now_3, .int (mn now), .int (ma now), .int (yr now), .int (dw now)], ai G h_now_0 6 (kd now), ai G h_now_1 18 (pl now), ai G h_now_2 6 (lf now), ai G h_now_3 6 (se now)] := hD
      have hP9 := hP
      have hD9 := hD
      exact W.iret (v := r_20) hx hb hr (fun t ht hW => ⟨⟨r_20, (), rfl, hw, by rw [ht]; exact hP9, hD9⟩, hS.F ht⟩) hS.2.2 dX0_of_124
    replace hw := hw.2.2.2.2.2.2.2.2.2 ⟨c_3, c_5, c_7, c_9, c_11, c_13, c_15, c_17, c_19⟩
    refine lv_tableOut (tgt := 125) hx hb dX0_of_11 (z_tabOut (0) 9 [(0 : Int32), (1 : Int32), (2 : Int32), (3 : Int32), (4 : Int32), (5 : Int32), (6 : Int32), (7 : Int32), (8 : Int32)] (by decide +kernel) (List.forall_mem_cons.mpr ⟨c_3, (List.forall_mem_cons.mpr ⟨c_5, (List.forall_mem_cons.mpr ⟨c_7, (List.forall_mem_cons.mpr ⟨c_9, (List.forall_mem_cons.mpr ⟨c_11, (List.forall_mem_cons.mpr ⟨c_13, (List.forall_mem_cons.mpr ⟨c_15, (List.forall_mem_cons.mpr ⟨c_17, (List.forall_mem_cons.mpr ⟨c_19, fun _ h9 => absurd h9 List.not_mem_nil⟩)⟩)⟩)⟩)⟩)⟩)⟩)⟩)⟩)) (by decide) ?_
    refine lv_iconst (v := (-1 : Int32)) hx hb dX0_of_125 (by decide) ?_
    have hP9 := hP.sub (ws' := [oc h 0 [.ref h_kinds, .ref h_now, .ref h_fault, .ref h_tape, .int taped, .int reads, .ref h_got, .ref h_failing, .ref h_past, .int undoMany, .ref h_aside, .ref h_best, .ref h_tried, .ref h_kept, .ref h_keptPast, .int keptMany, .int isKept, .ref h_sheets], ar G h_kinds 5 5 [h_kinds_0, h_kinds_1, h_kinds_2, h_kinds_3, h_kinds_4], oc h_kinds_0 1 [], oc h_kinds_1 2 [], oc h_kinds_2 3 [], oc h_kinds_3 4 [], oc h_kinds_4 5 [], oc h_now 6 [.ref h_now_0, .ref h_now_1, .ref h_now_2, .ref h_now_3, .int (mn now), .int (ma now), .int (yr now), .int (dw now)], ai G h_now_0 6 (kd now), ai G h_now_1 18 (pl now), ai G h_now_2 6 (lf now), ai G h_now_3 6 (se now)]) [6, 0, 1, 2, 3, 4, 5, 7, 8, 9, 10, 11] rfl
    have hD9 := hD.sub (ws' := [oc h 0 [.ref h_kinds, .ref h_now, .ref h_fault, .ref h_tape, .int taped, .int reads, .ref h_got, .ref h_failing, .ref h_past, .int undoMany, .ref h_aside, .ref h_best, .ref h_tried, .ref h_kept, .ref h_keptPast, .int keptMany, .int isKept, .ref h_sheets], ar G h_kinds 5 5 [h_kinds_0, h_kinds_1, h_kinds_2, h_kinds_3, h_kinds_4], oc h_kinds_0 1 [], oc h_kinds_1 2 [], oc h_kinds_2 3 [], oc h_kinds_3 4 [], oc h_kinds_4 5 [], oc h_now 6 [.ref h_now_0, .ref h_now_1, .ref h_now_2, .ref h_now_3, .int (mn now), .int (ma now), .int (yr now), .int (dw now)], ai G h_now_0 6 (kd now), ai G h_now_1 18 (pl now), ai G h_now_2 6 (lf now), ai G h_now_3 6 (se now)]) [6, 0, 1, 2, 3, 4, 5, 7, 8, 9, 10, 11] (by decide) rfl
    exact W.iret (v := (-1 : Int32)) hx hb hr (fun t ht hW => ⟨⟨(-1 : Int32), (), rfl, hw, by rw [ht]; exact hP9, hD9⟩, hS.F ht⟩) hS.2.2 dX0_of_126
  · replace hw := hw.2 c_2
    refine lv_iconst (v := (-1 : Int32)) hx hb dX0_of_8 (by decide) ?_
    have hP9 := hP.sub (ws' := [oc h 0 [.ref h_kinds, .ref h_now, .ref h_fault, .ref h_tape, .int taped, .int reads, .ref h_got, .ref h_failing, .ref h_past, .int undoMany, .ref h_aside, .ref h_best, .ref h_tried, .ref h_kept, .ref h_keptPast, .int keptMany, .int isKept, .ref h_sheets], ar G h_kinds 5 5 [h_kinds_0, h_kinds_1, h_kinds_2, h_kinds_3, h_kinds_4], oc h_kinds_0 1 [], oc h_kinds_1 2 [], oc h_kinds_2 3 [], oc h_kinds_3 4 [], oc h_kinds_4 5 [], oc h_now 6 [.ref h_now_0, .ref h_now_1, .ref h_now_2, .ref h_now_3, .int (mn now), .int (ma now), .int (yr now), .int (dw now)], ai G h_now_0 6 (kd now), ai G h_now_1 18 (pl now), ai G h_now_2 6 (lf now), ai G h_now_3 6 (se now)]) [6, 0, 1, 2, 3, 4, 5, 7, 8, 9, 10, 11] rfl
    have hD9 := hD.sub (ws' := [oc h 0 [.ref h_kinds, .ref h_now, .ref h_fault, .ref h_tape, .int taped, .int reads, .ref h_got, .ref h_failing, .ref h_past, .int undoMany, .ref h_aside, .ref h_best, .ref h_tried, .ref h_kept, .ref h_keptPast, .int keptMany, .int isKept, .ref h_sheets], ar G h_kinds 5 5 [h_kinds_0, h_kinds_1, h_kinds_2, h_kinds_3, h_kinds_4], oc h_kinds_0 1 [], oc h_kinds_1 2 [], oc h_kinds_2 3 [], oc h_kinds_3 4 [], oc h_kinds_4 5 [], oc h_now 6 [.ref h_now_0, .ref h_now_1, .ref h_now_2, .ref h_now_3, .int (mn now), .int (ma now), .int (yr now), .int (dw now)], ai G h_now_0 6 (kd now), ai G h_now_1 18 (pl now), ai G h_now_2 6 (lf now), ai G h_now_3 6 (se now)]) [6, 0, 1, 2, 3, 4, 5, 7, 8, 9, 10, 11] (by decide) rfl
    exact W.iret (v := (-1 : Int32)) hx hb hr (fun t ht hW => ⟨⟨(-1 : Int32), (), rfl, hw, by rw [ht]; exact hP9, hD9⟩, hS.F ht⟩) hS.2.2 dX0_of_9
/-! BattleBench.seat(I)I -/
def wp_X0_seat (now : BT) (p1 : Int32) (Q : Int32 → Prop) : Prop :=
  (((0 ≤ p1) → ((((ma now) ≤ p1) → Q (-4 : Int32)) ∧ (¬ ((ma now) ≤ p1) → (vp_in p1 6 ∧ Q ((se now) p1.toNatClampNeg))))) ∧ (¬ (0 ≤ p1) → Q (-1 : Int32)))
set_option maxHeartbeats 4000000 in
theorem mt_X0_seat (l : Launch) (G : GT) (h h_kinds h_now h_fault h_tape h_got h_failing h_past h_aside h_best h_tried h_kept h_keptPast h_sheets h_now_0 h_now_1 h_now_2 h_now_3 : Nat) (sz : Nat) (taped : Int32) (reads : Int32) (undoMany : Int32) (keptMany : Int32) (isKept : Int32) (now : BT) (p1 : Int32) (Q : Int32 → Prop) (hw : wp_X0_seat now p1 Q) : Met l yX0_seat (ws_ yX0_seat cX0_seat 2 (some .int)) ({ frames := 0, cells := 0, slots := 0, locals := 0 } : Room) (va_Pc [.ref h, .int p1] (fun U => U.heap.size = sz ∧ va_P G.1 gCl [oc h 0 [.ref h_kinds, .ref h_now, .ref h_fault, .ref h_tape, .int taped, .int reads, .ref h_got, .ref h_failing, .ref h_past, .int undoMany, .ref h_aside, .ref h_best, .ref h_tried, .ref h_kept, .ref h_keptPast, .int keptMany, .int isKept, .ref h_sheets], oc h_now 6 [.ref h_now_0, .ref h_now_1, .ref h_now_2, .ref h_now_3, .int (mn now), .int (ma now), .int (yr now), .int (dw now)], ai G h_now_0 6 (kd now), ai G h_now_1 18 (pl now), ai G h_now_2 6 (lf now), ai G h_now_3 6 (se now)] U.heap ∧ gK G U ∧ va_D (fun _ => True) [oc h 0 [.ref h_kinds, .ref h_now, .ref h_fault, .ref h_tape, .int taped, .int reads, .ref h_got, .ref h_failing, .ref h_past, .int undoMany, .ref h_aside, .ref h_best, .ref h_tried, .ref h_kept, .ref h_keptPast, .int keptMany, .int isKept, .ref h_sheets], oc h_now 6 [.ref h_now_0, .ref h_now_1, .ref h_now_2, .ref h_now_3, .int (mn now), .int (ma now), .int (yr now), .int (dw now)], ai G h_now_0 6 (kd now), ai G h_now_1 18 (pl now), ai G h_now_2 6 (lf now), ai G h_now_3 6 (se now)])) ((fun A => (va_Qi (fun (r : Int32) (u : Unit) => Q r ) (fun u t => va_P G.1 gCl [oc h 0 [.ref h_kinds, .ref h_now, .ref h_fault, .ref h_tape, .int taped, .int reads, .ref h_got, .ref h_failing, .ref h_past, .int undoMany, .ref h_aside, .ref h_best, .ref h_tried, .ref h_kept, .ref h_keptPast, .int keptMany, .int isKept, .ref h_sheets], oc h_now 6 [.ref h_now_0, .ref h_now_1, .ref h_now_2, .ref h_now_3, .int (mn now), .int (ma now), .int (yr now), .int (dw now)], ai G h_now_0 6 (kd now), ai G h_now_1 18 (pl now), ai G h_now_2 6 (lf now), ai G h_now_3 6 (se now)] t.heap ∧ va_D A [oc h 0 [.ref h_kinds, .ref h_now, .ref h_fault, .ref h_tape, .int taped, .int reads, .ref h_got, .ref h_failing, .ref h_past, .int undoMany, .ref h_aside, .ref h_best, .ref h_tried, .ref h_kept, .ref h_keptPast, .int keptMany, .int isKept, .ref h_sheets], oc h_now 6 [.ref h_now_0, .ref h_now_1, .ref h_now_2, .ref h_now_3, .int (mn now), .int (ma now), .int (yr now), .int (dw now)], ai G h_now_0 6 (kd now), ai G h_now_1 18 (pl now), ai G h_now_2 6 (lf now), ai G h_now_3 6 (se now)]) A)) (va_A [oc h 0 [.ref h_kinds, .ref h_now, .ref h_fault, .ref h_tape, .int taped, .int reads, .ref h_got, .ref h_failing, .ref h_past, .int undoMany, .ref h_aside, .ref h_best, .ref h_tried, .ref h_kept, .ref h_keptPast, .int keptMany, .int isKept, .ref h_sheets], oc h_now 6 [.ref h_now_0, .ref h_now_1, .ref h_now_2, .ref h_now_3, .int (mn now), .int (ma now), .int (yr now), .int (dw now)], ai G h_now_0 6 (kd now), ai G h_now_1 18 (pl now), ai G h_now_2 6 (lf now), ai G h_now_3 6 (se now)] sz)) 0 0 (va_A [oc h 0 [.ref h_kinds, .ref h_now, .ref h_fault, .ref h_tape, .int taped, .int reads, .ref h_got, .ref h_failing, .ref h_past, .int undoMany, .ref h_aside, .ref h_best, .ref h_tried, .ref h_kept, .ref h_keptPast, .int keptMany, .int isKept, .ref h_sheets], oc h_now 6 [.ref h_now_0, .ref h_now_1, .ref h_now_2, .ref h_now_3, .int (mn now), .int (ma now), .int (yr now), .int (dw now)], ai G h_now_0 6 (kd now), ai G h_now_1 18 (pl now), ai G h_now_2 6 (lf now), ai G h_now_3 6 (se now)] sz) := by
  refine Met.ofW (cc := cX0_seat) (maxL := 2) (ret := (some .int)) (by decide) rfl ?_
  intro p e s m args below meth c s₁ B hml hv
  obtain ⟨rfl, hsz, hP, hK, hD0⟩ := hv
  have hx := B.exec
  have hb := B.bytes
  have hr := B.returns
  have hts := atoms_spec (ws := (ws_ yX0_seat cX0_seat 2 (some .int))) B.pre
  have hts : ∀ w ∈ lw_all, w.before _ s = true := fun w h => hts w (List.mem_cons_of_mem _ h)
  have hown : s.vm.findClass RX0 = some m.cls := findClass_of_methodNamed B.named
  have hlocks := B.notSynchronized
  subst hsz
  have hD := hD0.self (sz := s.heap.size)
  generalize hAe : va_A [oc h 0 [.ref h_kinds, .ref h_now, .ref h_fault, .ref h_tape, .int taped, .int reads, .ref h_got, .ref h_failing, .ref h_past, .int undoMany, .ref h_aside, .ref h_best, .ref h_tried, .ref h_kept, .ref h_keptPast, .int keptMany, .int isKept, .ref h_sheets], oc h_now 6 [.ref h_now_0, .ref h_now_1, .ref h_now_2, .ref h_now_3, .int (mn now), .int (ma now), .int (yr now), .int (dw now)], ai G h_now_0 6 (kd now), ai G h_now_1 18 (pl now), ai G h_now_2 6 (lf now), ai G h_now_3 6 (se now)] s.heap.size = A at hD ⊢
  have hA : ∀ q : Nat, s.heap.size ≤ q → A q := fun q h => by rw [← hAe]; exact Or.inr h
  have hS : va_S A s.heap s.heap [] := va_S.rf
  have C : Cx p s m meth c cX0_seat 2 (some .int) RX0 ([.ref h, .int p1] : List Value).toArray G A := ⟨hx, hb, hr, hlocks, hml, hown, hts, hK, hA⟩
  have hl := lv_entry ([.ref h, .int p1]) (n := 2) (Nat.le_of_ble_eq_true rfl)
  rw [lg_entry_eq]
  generalize (lg_sl ([.ref h, .int p1]) ++ List.replicate (2 - (lg_sl ([.ref h, .int p1])).length) Slot.unset).toArray = ls at hl ⊢
  have hl : lv_has ls 2 [(0, .ref h), (1, .int p1)] := hl
  unfold wp_X0_seat at hw
  refine lv_iload_n hx hb dX0_seat_0 rfl (lv_at hl 1 rfl) ?_
  refine lv_if_ge (tgt := 8) hx hb dX0_seat_1 (by decide) (fun c_1 => ?_) (fun c_1 => ?_)
  · replace hw := hw.1 c_1
    refine lv_iload_n hx hb dX0_seat_8 rfl (lv_at hl 1 rfl) ?_
    refine lv_aload_n hx hb dX0_seat_9 rfl (lv_at hl 0 rfl) ?_
    refine va_get (D := G.1) (ci := 0) (v := .ref h_now) (C := RX0) (T := TX0) (N := 18) hx hb hts in_X0 hown hK.1 hP 0 rfl rfl 1 (by decide) (hts _ q257) (fun _ h9 => h9) rfl dX0_seat_10 ?_
    refine va_getN (D := G.1) (ci := 6) (v := .int (ma now)) (C := RX6) (T := TX6) (N := 8) hx hb hts in_X6 hown hK.1 hP 1 rfl rfl 5 (by decide) (hK.n q138 rfl) (fun _ h9 => h9) rfl dX0_seat_13 ?_
    refine lv_icmp_ge (tgt := 31) hx hb dX0_seat_16 (by decide) (fun c_2 => ?_) (fun c_2 => ?_)
    · replace hw := hw.1 c_2
      refine lv_bipush (v := (-4 : Int32)) hx hb dX0_seat_31 (by decide) ?_
      have hP9 := hP
      have hD9 := hD
      exact W.iret (v := (-4 : Int32)) hx hb hr (fun t ht hW => ⟨⟨(-4 : Int32), (), rfl, hw, by rw [ht]; exact hP9, hD9⟩, hS.F ht⟩) hS.2.2 dX0_seat_33
    · replace hw := hw.2 c_2
      refine lv_aload_n hx hb dX0_seat_19 rfl (lv_at hl 0 rfl) ?_
      refine va_get (D := G.1) (ci := 0) (v := .ref h_now) (C := RX0) (T := TX0) (N := 18) hx hb hts in_X0 hown hK.1 hP 0 rfl rfl 1 (by decide) (hts _ q257) (fun _ h9 => h9) rfl dX0_seat_20 ?_
      refine va_getN (D := G.1) (ci := 6) (v := .ref h_now_3) (C := RX6) (T := TX6) (N := 8) hx hb hts in_X6 hown hK.1 hP 1 rfl rfl 3 (by decide) (hK.n q134 rfl) (fun _ h9 => h9) rfl dX0_seat_23 ?_
      refine lv_iload_n hx hb dX0_seat_26 rfl (lv_at hl 1 rfl) ?_
      obtain ⟨i_3, hw⟩ := hw
      refine z_iald hx hb hK.1 hP 5 0 rfl rfl i_3 dX0_seat_27 (k := p1.toNatClampNeg) rfl ?_
      refine lv_goto (tgt := 33) hx hb dX0_seat_28 (by decide) ?_
      have hP9 := hP
      have hD9 := hD
      exact W.iret (v := ((se now) p1.toNatClampNeg)) hx hb hr (fun t ht hW => ⟨⟨((se now) p1.toNatClampNeg), (), rfl, hw, by rw [ht]; exact hP9, hD9⟩, hS.F ht⟩) hS.2.2 dX0_seat_33
  · replace hw := hw.2 c_1
    refine lv_iconst (v := (-1 : Int32)) hx hb dX0_seat_4 (by decide) ?_
    refine lv_goto (tgt := 33) hx hb dX0_seat_5 (by decide) ?_
    have hP9 := hP
    have hD9 := hD
    exact W.iret (v := (-1 : Int32)) hx hb hr (fun t ht hW => ⟨⟨(-1 : Int32), (), rfl, hw, by rw [ht]; exact hP9, hD9⟩, hS.F ht⟩) hS.2.2 dX0_seat_33
/-! BattleBench.type(I)I -/
def wp_X0_type (taped : Int32) (tape : Nat → Int32) (p1 : Int32) (Q : Int32 → (Int32 × (Nat → Int32)) → Prop) : Prop :=
  wp_X0_isIn  (Int32.toInt64 p1) (32 : Int64) (126 : Int64) (fun r_1 => ((¬ (r_1 = 0) → ((¬ (taped = (70 : Int32)) → (∀ v_4 : Int32, v_4 = (UInt32.toInt32 (Int32.toUInt32 p1 % 65536)) → (vp_in taped 70 ∧ ∀ f_6 : Nat → Int32, f_6 = upd tape taped.toNatClampNeg (vp_nar .char v_4) → (∀ v_7 : Int32, v_7 = (taped + (1 : Int32)) → Q v_7 (v_7, f_6))))) ∧ ((taped = (70 : Int32)) → Q (-3 : Int32) (taped, tape)))) ∧ ((r_1 = 0) → Q (-1 : Int32) (taped, tape))))
set_option maxHeartbeats 4000000 in
theorem mt_X0_type (l : Launch) (G : GT) (h h_kinds h_now h_fault h_tape h_got h_failing h_past h_aside h_best h_tried h_kept h_keptPast h_sheets : Nat) (sz : Nat) (taped : Int32) (reads : Int32) (undoMany : Int32) (keptMany : Int32) (isKept : Int32) (tape : Nat → Int32) (p1 : Int32) (Q : Int32 → (Int32 × (Nat → Int32)) → Prop) (hw : wp_X0_type taped tape p1 Q) : Met l yX0_type (ws_ yX0_type cX0_type 2 (some .int)) ({ frames := 1, cells := 0, slots := 0, locals := 25 } : Room) (va_Pc [.ref h, .int p1] (fun U => U.heap.size = sz ∧ va_P G.1 gCl [oc h 0 [.ref h_kinds, .ref h_now, .ref h_fault, .ref h_tape, .int taped, .int reads, .ref h_got, .ref h_failing, .ref h_past, .int undoMany, .ref h_aside, .ref h_best, .ref h_tried, .ref h_kept, .ref h_keptPast, .int keptMany, .int isKept, .ref h_sheets], ac G h_tape 70 tape] U.heap ∧ gK G U ∧ va_D (fun _ => True) [oc h 0 [.ref h_kinds, .ref h_now, .ref h_fault, .ref h_tape, .int taped, .int reads, .ref h_got, .ref h_failing, .ref h_past, .int undoMany, .ref h_aside, .ref h_best, .ref h_tried, .ref h_kept, .ref h_keptPast, .int keptMany, .int isKept, .ref h_sheets], ac G h_tape 70 tape])) ((fun A => (va_Qi (fun (r : Int32) (u : Int32 × (Nat → Int32)) => Q r u) (fun u t => va_P G.1 gCl [oc h 0 [.ref h_kinds, .ref h_now, .ref h_fault, .ref h_tape, .int u.1, .int reads, .ref h_got, .ref h_failing, .ref h_past, .int undoMany, .ref h_aside, .ref h_best, .ref h_tried, .ref h_kept, .ref h_keptPast, .int keptMany, .int isKept, .ref h_sheets], ac G h_tape 70 u.2] t.heap ∧ va_D A [oc h 0 [.ref h_kinds, .ref h_now, .ref h_fault, .ref h_tape, .int u.1, .int reads, .ref h_got, .ref h_failing, .ref h_past, .int undoMany, .ref h_aside, .ref h_best, .ref h_tried, .ref h_kept, .ref h_keptPast, .int keptMany, .int isKept, .ref h_sheets], ac G h_tape 70 u.2]) A)) (va_A [oc h 0 [.ref h_kinds, .ref h_now, .ref h_fault, .ref h_tape, .int taped, .int reads, .ref h_got, .ref h_failing, .ref h_past, .int undoMany, .ref h_aside, .ref h_best, .ref h_tried, .ref h_kept, .ref h_keptPast, .int keptMany, .int isKept, .ref h_sheets], ac G h_tape 70 tape] sz)) 0 0 (va_A [oc h 0 [.ref h_kinds, .ref h_now, .ref h_fault, .ref h_tape, .int taped, .int reads, .ref h_got, .ref h_failing, .ref h_past, .int undoMany, .ref h_aside, .ref h_best, .ref h_tried, .ref h_kept, .ref h_keptPast, .int keptMany, .int isKept, .ref h_sheets], ac G h_tape 70 tape] sz) := by
  refine Met.ofW (cc := cX0_type) (maxL := 2) (ret := (some .int)) (by decide) rfl ?_
  intro p e s m args below meth c s₁ B hml hv
  obtain ⟨rfl, hsz, hP, hK, hD0⟩ := hv
  have hx := B.exec
  have hb := B.bytes
  have hr := B.returns
  have hts := atoms_spec (ws := (ws_ yX0_type cX0_type 2 (some .int))) B.pre
  have hts : ∀ w ∈ lw_all, w.before _ s = true := fun w h => hts w (List.mem_cons_of_mem _ h)
  have hown : s.vm.findClass RX0 = some m.cls := findClass_of_methodNamed B.named
  have hlocks := B.notSynchronized
  subst hsz
  have hD := hD0.self (sz := s.heap.size)
  generalize hAe : va_A [oc h 0 [.ref h_kinds, .ref h_now, .ref h_fault, .ref h_tape, .int taped, .int reads, .ref h_got, .ref h_failing, .ref h_past, .int undoMany, .ref h_aside, .ref h_best, .ref h_tried, .ref h_kept, .ref h_keptPast, .int keptMany, .int isKept, .ref h_sheets], ac G h_tape 70 tape] s.heap.size = A at hD ⊢
  have hA : ∀ q : Nat, s.heap.size ≤ q → A q := fun q h => by rw [← hAe]; exact Or.inr h
  have hS : va_S A s.heap s.heap [] := va_S.rf
  have C : Cx p s m meth c cX0_type 2 (some .int) RX0 ([.ref h, .int p1] : List Value).toArray G A := ⟨hx, hb, hr, hlocks, hml, hown, hts, hK, hA⟩
  have hl := lv_entry ([.ref h, .int p1]) (n := 2) (Nat.le_of_ble_eq_true rfl)
  rw [lg_entry_eq]
  generalize (lg_sl ([.ref h, .int p1]) ++ List.replicate (2 - (lg_sl ([.ref h, .int p1])).length) Slot.unset).toArray = ls at hl ⊢
  have hl : lv_has ls 2 [(0, .ref h), (1, .int p1)] := hl
  unfold wp_X0_type at hw
  refine lv_iload_n hx hb dX0_type_0 rfl (lv_at hl 1 rfl) ?_
  refine lv_i2l hx hb dX0_type_1 rfl ?_
  refine lv_ldc2 (v := (32 : Int64)) hx hb hown (hts _ q424) dX0_type_2 ?_
  refine lv_ldc2 (v := (126 : Int64)) hx hb hown (hts _ q425) dX0_type_5 ?_
  have hPc := hP.sub (ws' := []) [] rfl
  have hDc := hD.sub (ws' := []) [] (by decide) rfl
  have hFc := va_free (wc := []) hD hS hA [] rfl
  refine va_calli (va_runS (As := [.long (Int32.toInt64 p1), .long (32 : Int64), .long (126 : Int64)]) (rest := []) ⟨hx, hb, hml, hown, hts⟩ (mt_X0_isIn l G  s.heap.size  (Int32.toInt64 p1) (32 : Int64) (126 : Int64) _ hw) (va_cwS 3 hts (lw_S q316 q317 q54 q318) rfl rfl rfl (by decide +kernel) ⟨Nat.le_of_ble_eq_true rfl, Nat.le_of_ble_eq_true rfl⟩) ⟨fun a U g mk q => by obtain ⟨q0, q1, qP, qK, qD⟩ := q; exact ⟨q0, q1, qP, qK.call, qD⟩, fun U hU hW => ⟨rfl, by rw [hU], by rw [hU]; exact hPc, hK.warm hW, hDc.weaken (fun _ _ _ _ => trivial)⟩⟩ rfl rfl hl.1 rfl (lv_room (Nat.le_of_ble_eq_true rfl)) dX0_type_8 ⟨Nat.le_of_ble_eq_true rfl, Nat.le_of_ble_eq_true rfl⟩) hS (fun q _ h => hFc q h) hFc (fun r_1 _ t H1 locs ht hvm hw hB hz1 hk1 hS => ?_)
  obtain ⟨hP1, hD1⟩ := hB
  rw [ht] at hP1
  obtain ⟨hP, hD⟩ := va_join (wr := [oc h 0 [.ref h_kinds, .ref h_now, .ref h_fault, .ref h_tape, .int taped, .int reads, .ref h_got, .ref h_failing, .ref h_past, .int undoMany, .ref h_aside, .ref h_best, .ref h_tried, .ref h_kept, .ref h_keptPast, .int keptMany, .int isKept, .ref h_sheets], ac G h_tape 70 tape]) (w1 := []) hP hD [] [0, 1] rfl rfl (by decide) (by decide) hk1 hFc hP1 hD1
  clear hPc hDc hFc hP1 hD1 hz1 hk1 hvm
  generalize H1 = H at hP hS ⊢
  have hP : va_P G.1 gCl [oc h 0 [.ref h_kinds, .ref h_now, .ref h_fault, .ref h_tape, .int taped, .int reads, .ref h_got, .ref h_failing, .ref h_past, .int undoMany, .ref h_aside, .ref h_best, .ref h_tried, .ref h_kept, .ref h_keptPast, .int keptMany, .int isKept, .ref h_sheets], ac G h_tape 70 tape] H := hP
  have hD : va_D A [oc h 0 [.ref h_kinds, .ref h_now, .ref h_fault, .ref h_tape, .int taped, .int reads, .ref h_got, .ref h_failing, .ref h_past, .int undoMany, .ref h_aside, .ref h_best, .ref h_tried, .ref h_kept, .ref h_keptPast, .int keptMany, .int isKept, .ref h_sheets], ac G h_tape 70 tape] := hD
  refine lv_if_ne (tgt := 16) hx hb dX0_type_11 (by decide) (fun c_2 => ?_) (fun c_2 => ?_)
  · replace hw := hw.1 c_2
    refine lv_aload_n hx hb dX0_type_16 rfl (lv_at hl 0 rfl) ?_
    refine va_get (D := G.1) (ci := 0) (v := .int taped) (C := RX0) (T := TX0) (N := 18) hx hb hts in_X0 hown hK.1 hP 0 rfl rfl 4 (by decide) (hts _ q260) (fun _ h9 => h9) rfl dX0_type_17 ?_
    refine lv_bipush (v := (70 : Int32)) hx hb dX0_type_20 (by decide) ?_
    refine lv_icmp_ne (tgt := 28) hx hb dX0_type_22 (by decide) (fun c_3 => ?_) (fun c_3 => ?_)
    · replace hw := hw.1 c_3
      refine lv_aload_n hx hb dX0_type_28 rfl (lv_at hl 0 rfl) ?_
      refine va_get (D := G.1) (ci := 0) (v := .ref h_tape) (C := RX0) (T := TX0) (N := 18) hx hb hts in_X0 hown hK.1 hP 0 rfl rfl 3 (by decide) (hts _ q259) (fun _ h9 => h9) rfl dX0_type_29 ?_
      refine lv_aload_n hx hb dX0_type_32 rfl (lv_at hl 0 rfl) ?_
      refine va_get (D := G.1) (ci := 0) (v := .int taped) (C := RX0) (T := TX0) (N := 18) hx hb hts in_X0 hown hK.1 hP 0 rfl rfl 4 (by decide) (hts _ q260) (fun _ h9 => h9) rfl dX0_type_33 ?_
      refine lv_iload_n hx hb dX0_type_36 rfl (lv_at hl 1 rfl) ?_
      refine lv_i2c hx hb dX0_type_37 rfl ?_
      refine lv_topi (fun v_4 ev_4 => ?_)
      replace hw := hw v_4 ev_4
      obtain ⟨i_5, hw⟩ := hw
      refine z_cast hx hb hK.1 hP hD hS 1 2 rfl rfl i_5 dX0_type_38 (k := taped.toNatClampNeg) rfl (fun f_6 ef_6 H locs hP hD hS => ?_)
      replace hw := hw f_6 ef_6
      have hP : va_P G.1 gCl [oc h 0 [.ref h_kinds, .ref h_now, .ref h_fault, .ref h_tape, .int taped, .int reads, .ref h_got, .ref h_failing, .ref h_past, .int undoMany, .ref h_aside, .ref h_best, .ref h_tried, .ref h_kept, .ref h_keptPast, .int keptMany, .int isKept, .ref h_sheets], ac G h_tape 70 f_6] H := hP
      have hD : va_D A [oc h 0 [.ref h_kinds, .ref h_now, .ref h_fault, .ref h_tape, .int taped, .int reads, .ref h_got, .ref h_failing, .ref h_past, .int undoMany, .ref h_aside, .ref h_best, .ref h_tried, .ref h_kept, .ref h_keptPast, .int keptMany, .int isKept, .ref h_sheets], ac G h_tape 70 f_6] := hD
      refine lv_aload_n hx hb dX0_type_39 rfl (lv_at hl 0 rfl) ?_
      refine lv_dup hx hb dX0_type_40 rfl ?_
      refine va_get (D := G.1) (ci := 0) (v := .int taped) (C := RX0) (T := TX0) (N := 18) hx hb hts in_X0 hown hK.1 hP 0 rfl rfl 4 (by decide) (hts _ q260) (fun _ h9 => h9) rfl dX0_type_41 ?_
      refine lv_iconst (v := (1 : Int32)) hx hb dX0_type_44 (by decide) ?_
      refine lv_iadd hx hb dX0_type_45 ?_
      refine lv_topi (fun v_7 ev_7 => ?_)
      replace hw := hw v_7 ev_7
      refine va_put (D := G.1) (ci := 0) (v := .int v_7) (ty := .int) (C := RX0) (T := TX0) (N := 18) hx hb hts in_X0 tyX0 tyX0_ok nmX0 hown hK.1 hP hD hS 0 rfl rfl 4 (by decide) (hts _ q260) (fun _ h9 => h9) rfl (by decide +kernel) rfl rfl (Nat.le_of_ble_eq_true rfl) dX0_type_46 (fun H locs hP hD hS => ?_)
      have hP : va_P G.1 gCl [oc h 0 [.ref h_kinds, .ref h_now, .ref h_fault, .ref h_tape, .int v_7, .int reads, .ref h_got, .ref h_failing, .ref h_past, .int undoMany, .ref h_aside, .ref h_best, .ref h_tried, .ref h_kept, .ref h_keptPast, .int keptMany, .int isKept, .ref h_sheets], ac G h_tape 70 f_6] H := hP
      have hD : va_D A [oc h 0 [.ref h_kinds, .ref h_now, .ref h_fault, .ref h_tape, .int v_7, .int reads, .ref h_got, .ref h_failing, .ref h_past, .int undoMany, .ref h_aside, .ref h_best, .ref h_tried, .ref h_kept, .ref h_keptPast, .int keptMany, .int isKept, .ref h_sheets], ac G h_tape 70 f_6] := hD
      refine lv_aload_n hx hb dX0_type_49 rfl (lv_at hl 0 rfl) ?_
      refine va_get (D := G.1) (ci := 0) (v := .int v_7) (C := RX0) (T := TX0) (N := 18) hx hb hts in_X0 hown hK.1 hP 0 rfl rfl 4 (by decide) (hts _ q260) (fun _ h9 => h9) rfl dX0_type_50 ?_
      have hP9 := hP
      have hD9 := hD
      exact W.iret (v := v_7) hx hb hr (fun t ht hW => ⟨⟨v_7, (v_7, f_6), rfl, hw, by rw [ht]; exact hP9, hD9⟩, hS.F ht⟩) hS.2.2 dX0_type_53
    · replace hw := hw.2 c_3
      refine lv_bipush (v := (-3 : Int32)) hx hb dX0_type_25 (by decide) ?_
      have hP9 := hP
      have hD9 := hD
      exact W.iret (v := (-3 : Int32)) hx hb hr (fun t ht hW => ⟨⟨(-3 : Int32), (taped, tape), rfl, hw, by rw [ht]; exact hP9, hD9⟩, hS.F ht⟩) hS.2.2 dX0_type_27
  · replace hw := hw.2 c_2
    refine lv_iconst (v := (-1 : Int32)) hx hb dX0_type_14 (by decide) ?_
    have hP9 := hP
    have hD9 := hD
    exact W.iret (v := (-1 : Int32)) hx hb hr (fun t ht hW => ⟨⟨(-1 : Int32), (taped, tape), rfl, hw, by rw [ht]; exact hP9, hD9⟩, hS.F ht⟩) hS.2.2 dX0_type_15
/-! BattleBench.nextLetter()I -/
def wp_X0_nextLetter_38 (taped : Int32) (tape : Nat → Int32) (Q : Int32 → (Int32) → Prop)  (reads : Int32) : Prop :=
  (((taped ≤ reads) → Q (-1 : Int32) reads) ∧ (¬ (taped ≤ reads) → (vp_in reads 70 ∧ Q (tape reads.toNatClampNeg) reads)))
set_option maxHeartbeats 4000000 in
theorem wk_X0_nextLetter_38 {p : Program} {l : Launch} {e : Env} {s : State} {m : MethodId} {below : List Frame} {meth : Method} {c : Code} {args : Array Value} {G : GT} {A : Nat → Prop} (h h_kinds h_now h_fault h_tape h_got h_failing h_past h_aside h_best h_tried h_kept h_keptPast h_sheets : Nat) (taped : Int32) (undoMany : Int32) (keptMany : Int32) (isKept : Int32) (tape : Nat → Int32) (Q : Int32 → (Int32) → Prop)  (C : Cx p s m meth c cX0_nextLetter 1 (some .int) RX0 args G A)  :
    ∀  (reads : Int32) (H : Heap) (locs : List Loc), va_P G.1 gCl [oc h 0 [.ref h_kinds, .ref h_now, .ref h_fault, .ref h_tape, .int taped, .int reads, .ref h_got, .ref h_failing, .ref h_past, .int undoMany, .ref h_aside, .ref h_best, .ref h_tried, .ref h_kept, .ref h_keptPast, .int keptMany, .int isKept, .ref h_sheets], ac G h_tape 70 tape] H → va_D A [oc h 0 [.ref h_kinds, .ref h_now, .ref h_fault, .ref h_tape, .int taped, .int reads, .ref h_got, .ref h_failing, .ref h_past, .int undoMany, .ref h_aside, .ref h_best, .ref h_tried, .ref h_kept, .ref h_keptPast, .int keptMany, .int isKept, .ref h_sheets], ac G h_tape 70 tape] → va_S A s.heap H locs → ∀ (ls : Array Slot), lv_has ls 1 [(0, .ref h)] → wp_X0_nextLetter_38 taped tape Q   reads → W p l e ({ frames := 0, cells := 0, slots := 0, locals := 0 } : Room) s m args below meth c H locs 0 0 (MQ below (va_Qi (fun (r : Int32) (u : Int32) => Q r u) (fun u t => va_P G.1 gCl [oc h 0 [.ref h_kinds, .ref h_now, .ref h_fault, .ref h_tape, .int taped, .int u, .ref h_got, .ref h_failing, .ref h_past, .int undoMany, .ref h_aside, .ref h_best, .ref h_tried, .ref h_kept, .ref h_keptPast, .int keptMany, .int isKept, .ref h_sheets], ac G h_tape 70 tape] t.heap ∧ va_D A [oc h 0 [.ref h_kinds, .ref h_now, .ref h_fault, .ref h_tape, .int taped, .int u, .ref h_got, .ref h_failing, .ref h_past, .int undoMany, .ref h_aside, .ref h_best, .ref h_tried, .ref h_kept, .ref h_keptPast, .int keptMany, .int isKept, .ref h_sheets], ac G h_tape 70 tape]) A) args s 0 0 A) (F0 m 38 ls []) := by
  have C9 := C
  obtain ⟨hx, hb, hr, hlocks, hml, hown, hts, hK, hA⟩ := C9
  intro reads H locs hP hD hS ls hl hw
  unfold wp_X0_nextLetter_38 at hw
  refine lv_aload_n hx hb dX0_nextLetter_38 rfl (lv_at hl 0 rfl) ?_
  refine va_get (D := G.1) (ci := 0) (v := .int reads) (C := RX0) (T := TX0) (N := 18) hx hb hts in_X0 hown hK.1 hP 0 rfl rfl 5 (by decide) (hts _ q261) (fun _ h9 => h9) rfl dX0_nextLetter_39 ?_
  refine lv_aload_n hx hb dX0_nextLetter_42 rfl (lv_at hl 0 rfl) ?_
  refine va_get (D := G.1) (ci := 0) (v := .int taped) (C := RX0) (T := TX0) (N := 18) hx hb hts in_X0 hown hK.1 hP 0 rfl rfl 4 (by decide) (hts _ q260) (fun _ h9 => h9) rfl dX0_nextLetter_43 ?_
  refine lv_icmp_ge (tgt := 61) hx hb dX0_nextLetter_46 (by decide) (fun c_1 => ?_) (fun c_1 => ?_)
  · replace hw := hw.1 c_1
    refine lv_iconst (v := (-1 : Int32)) hx hb dX0_nextLetter_61 (by decide) ?_
    have hP9 := hP
    have hD9 := hD
    exact W.iret (v := (-1 : Int32)) hx hb hr (fun t ht hW => ⟨⟨(-1 : Int32), reads, rfl, hw, by rw [ht]; exact hP9, hD9⟩, hS.F ht⟩) hS.2.2 dX0_nextLetter_62
  · replace hw := hw.2 c_1
    refine lv_aload_n hx hb dX0_nextLetter_49 rfl (lv_at hl 0 rfl) ?_
    refine va_get (D := G.1) (ci := 0) (v := .ref h_tape) (C := RX0) (T := TX0) (N := 18) hx hb hts in_X0 hown hK.1 hP 0 rfl rfl 3 (by decide) (hts _ q259) (fun _ h9 => h9) rfl dX0_nextLetter_50 ?_
    refine lv_aload_n hx hb dX0_nextLetter_53 rfl (lv_at hl 0 rfl) ?_
    refine va_get (D := G.1) (ci := 0) (v := .int reads) (C := RX0) (T := TX0) (N := 18) hx hb hts in_X0 hown hK.1 hP 0 rfl rfl 5 (by decide) (hts _ q261) (fun _ h9 => h9) rfl dX0_nextLetter_54 ?_
    obtain ⟨i_2, hw⟩ := hw
    refine z_cald hx hb hK.1 hP 1 2 rfl rfl i_2 dX0_nextLetter_57 (k := reads.toNatClampNeg) rfl ?_
    refine lv_goto (tgt := 62) hx hb dX0_nextLetter_58 (by decide) ?_
    have hP9 := hP
    have hD9 := hD
    exact W.iret (v := (tape reads.toNatClampNeg)) hx hb hr (fun t ht hW => ⟨⟨(tape reads.toNatClampNeg), reads, rfl, hw, by rw [ht]; exact hP9, hD9⟩, hS.F ht⟩) hS.2.2 dX0_nextLetter_62
def wp_X0_nextLetter_0 (taped : Int32) (tape : Nat → Int32) (Q : Int32 → (Int32) → Prop)  : Nat → Int32 → Prop
  | 0, _ => False
  | n + 1, reads =>
    (((taped ≤ reads) → wp_X0_nextLetter_38 taped tape Q  reads) ∧ (¬ (taped ≤ reads) → (vp_in reads 70 ∧ ((¬ ((tape reads.toNatClampNeg) = (32 : Int32)) → wp_X0_nextLetter_38 taped tape Q  reads) ∧ (((tape reads.toNatClampNeg) = (32 : Int32)) → (∀ v_4 : Int32, v_4 = (reads + (1 : Int32)) → wp_X0_nextLetter_0 taped tape Q  n v_4))))))
set_option maxHeartbeats 4000000 in
theorem wk_X0_nextLetter_0 {p : Program} {l : Launch} {e : Env} {s : State} {m : MethodId} {below : List Frame} {meth : Method} {c : Code} {args : Array Value} {G : GT} {A : Nat → Prop} (h h_kinds h_now h_fault h_tape h_got h_failing h_past h_aside h_best h_tried h_kept h_keptPast h_sheets : Nat) (taped : Int32) (undoMany : Int32) (keptMany : Int32) (isKept : Int32) (tape : Nat → Int32) (Q : Int32 → (Int32) → Prop)  (C : Cx p s m meth c cX0_nextLetter 1 (some .int) RX0 args G A)  :
    ∀ (n : Nat), ∀  (reads : Int32) (H : Heap) (locs : List Loc), va_P G.1 gCl [oc h 0 [.ref h_kinds, .ref h_now, .ref h_fault, .ref h_tape, .int taped, .int reads, .ref h_got, .ref h_failing, .ref h_past, .int undoMany, .ref h_aside, .ref h_best, .ref h_tried, .ref h_kept, .ref h_keptPast, .int keptMany, .int isKept, .ref h_sheets], ac G h_tape 70 tape] H → va_D A [oc h 0 [.ref h_kinds, .ref h_now, .ref h_fault, .ref h_tape, .int taped, .int reads, .ref h_got, .ref h_failing, .ref h_past, .int undoMany, .ref h_aside, .ref h_best, .ref h_tried, .ref h_kept, .ref h_keptPast, .int keptMany, .int isKept, .ref h_sheets], ac G h_tape 70 tape] → va_S A s.heap H locs → ∀ (ls : Array Slot), lv_has ls 1 [(0, .ref h)] → wp_X0_nextLetter_0 taped tape Q  n reads → W p l e ({ frames := 0, cells := 0, slots := 0, locals := 0 } : Room) s m args below meth c H locs 0 0 (MQ below (va_Qi (fun (r : Int32) (u : Int32) => Q r u) (fun u t => va_P G.1 gCl [oc h 0 [.ref h_kinds, .ref h_now, .ref h_fault, .ref h_tape, .int taped, .int u, .ref h_got, .ref h_failing, .ref h_past, .int undoMany, .ref h_aside, .ref h_best, .ref h_tried, .ref h_kept, .ref h_keptPast, .int keptMany, .int isKept, .ref h_sheets], ac G h_tape 70 tape] t.heap ∧ va_D A [oc h 0 [.ref h_kinds, .ref h_now, .ref h_fault, .ref h_tape, .int taped, .int u, .ref h_got, .ref h_failing, .ref h_past, .int undoMany, .ref h_aside, .ref h_best, .ref h_tried, .ref h_kept, .ref h_keptPast, .int keptMany, .int isKept, .ref h_sheets], ac G h_tape 70 tape]) A) args s 0 0 A) (F0 m 0 ls []) := by
  have C9 := C
  obtain ⟨hx, hb, hr, hlocks, hml, hown, hts, hK, hA⟩ := C9
  intro n
  induction n with
  | zero => intro reads H locs hP hD hS ls hl hw; exact False.elim hw
  | succ n ih =>
    intro reads H locs hP hD hS ls hl hw
    unfold wp_X0_nextLetter_0 at hw
    refine lv_aload_n hx hb dX0_nextLetter_0 rfl (lv_at hl 0 rfl) ?_
    refine va_get (D := G.1) (ci := 0) (v := .int reads) (C := RX0) (T := TX0) (N := 18) hx hb hts in_X0 hown hK.1 hP 0 rfl rfl 5 (by decide) (hts _ q261) (fun _ h9 => h9) rfl dX0_nextLetter_1 ?_
    refine lv_aload_n hx hb dX0_nextLetter_4 rfl (lv_at hl 0 rfl) ?_
    refine va_get (D := G.1) (ci := 0) (v := .int taped) (C := RX0) (T := TX0) (N := 18) hx hb hts in_X0 hown hK.1 hP 0 rfl rfl 4 (by decide) (hts _ q260) (fun _ h9 => h9) rfl dX0_nextLetter_5 ?_
    refine lv_icmp_ge (tgt := 38) hx hb dX0_nextLetter_8 (by decide) (fun c_1 => ?_) (fun c_1 => ?_)
    · replace hw := hw.1 c_1
      exact wk_X0_nextLetter_38 h h_kinds h_now h_fault h_tape h_got h_failing h_past h_aside h_best h_tried h_kept h_keptPast h_sheets taped undoMany keptMany isKept tape  Q  C  reads H locs hP hD hS ls (lv_sub hl [0] rfl) hw
    · replace hw := hw.2 c_1
      refine lv_aload_n hx hb dX0_nextLetter_11 rfl (lv_at hl 0 rfl) ?_
      refine va_get (D := G.1) (ci := 0) (v := .ref h_tape) (C := RX0) (T := TX0) (N := 18) hx hb hts in_X0 hown hK.1 hP 0 rfl rfl 3 (by decide) (hts _ q259) (fun _ h9 => h9) rfl dX0_nextLetter_12 ?_
      refine lv_aload_n hx hb dX0_nextLetter_15 rfl (lv_at hl 0 rfl) ?_
      refine va_get (D := G.1) (ci := 0) (v := .int reads) (C := RX0) (T := TX0) (N := 18) hx hb hts in_X0 hown hK.1 hP 0 rfl rfl 5 (by decide) (hts _ q261) (fun _ h9 => h9) rfl dX0_nextLetter_16 ?_
      obtain ⟨i_2, hw⟩ := hw
      refine z_cald hx hb hK.1 hP 1 2 rfl rfl i_2 dX0_nextLetter_19 (k := reads.toNatClampNeg) rfl ?_
      refine lv_bipush (v := (32 : Int32)) hx hb dX0_nextLetter_20 (by decide) ?_
      refine lv_icmp_ne (tgt := 38) hx hb dX0_nextLetter_22 (by decide) (fun c_3 => ?_) (fun c_3 => ?_)
      · replace hw := hw.1 c_3
        exact wk_X0_nextLetter_38 h h_kinds h_now h_fault h_tape h_got h_failing h_past h_aside h_best h_tried h_kept h_keptPast h_sheets taped undoMany keptMany isKept tape  Q  C  reads H locs hP hD hS ls (lv_sub hl [0] rfl) hw
      · replace hw := hw.2 c_3
        refine lv_aload_n hx hb dX0_nextLetter_25 rfl (lv_at hl 0 rfl) ?_
        refine lv_dup hx hb dX0_nextLetter_26 rfl ?_
        refine va_get (D := G.1) (ci := 0) (v := .int reads) (C := RX0) (T := TX0) (N := 18) hx hb hts in_X0 hown hK.1 hP 0 rfl rfl 5 (by decide) (hts _ q261) (fun _ h9 => h9) rfl dX0_nextLetter_27 ?_
        refine lv_iconst (v := (1 : Int32)) hx hb dX0_nextLetter_30 (by decide) ?_
        refine lv_iadd hx hb dX0_nextLetter_31 ?_
        refine lv_topi (fun v_4 ev_4 => ?_)
        replace hw := hw v_4 ev_4
        refine va_put (D := G.1) (ci := 0) (v := .int v_4) (ty := .int) (C := RX0) (T := TX0) (N := 18) hx hb hts in_X0 tyX0 tyX0_ok nmX0 hown hK.1 hP hD hS 0 rfl rfl 5 (by decide) (hts _ q261) (fun _ h9 => h9) rfl (by decide +kernel) rfl rfl (Nat.le_of_ble_eq_true rfl) dX0_nextLetter_32 (fun H locs hP hD hS => ?_)
        have hP : va_P G.1 gCl [oc h 0 [.ref h_kinds, .ref h_now, .ref h_fault, .ref h_tape, .int taped, .int v_4, .ref h_got, .ref h_failing, .ref h_past, .int undoMany, .ref h_aside, .ref h_best, .ref h_tried, .ref h_kept, .ref h_keptPast, .int keptMany, .int isKept, .ref h_sheets], ac G h_tape 70 tape] H := hP
        have hD : va_D A [oc h 0 [.ref h_kinds, .ref h_now, .ref h_fault, .ref h_tape, .int taped, .int v_4, .ref h_got, .ref h_failing, .ref h_past, .int undoMany, .ref h_aside, .ref h_best, .ref h_tried, .ref h_kept, .ref h_keptPast, .int keptMany, .int isKept, .ref h_sheets], ac G h_tape 70 tape] := hD
        refine lv_goto (tgt := 0) hx hb dX0_nextLetter_35 (by decide) ?_
        exact ih v_4 H locs hP hD hS ls (lv_sub hl [0] rfl) hw
def wp_X0_nextLetter (taped : Int32) (reads : Int32) (tape : Nat → Int32) (Q : Int32 → (Int32) → Prop) : Prop :=
  (∃ j_ : Nat, wp_X0_nextLetter_0 taped tape Q  j_ reads)
set_option maxHeartbeats 4000000 in
theorem mt_X0_nextLetter (l : Launch) (G : GT) (h h_kinds h_now h_fault h_tape h_got h_failing h_past h_aside h_best h_tried h_kept h_keptPast h_sheets : Nat) (sz : Nat) (taped : Int32) (reads : Int32) (undoMany : Int32) (keptMany : Int32) (isKept : Int32) (tape : Nat → Int32) (Q : Int32 → (Int32) → Prop) (hw : wp_X0_nextLetter taped reads tape Q) : Met l yX0_nextLetter (ws_ yX0_nextLetter cX0_nextLetter 1 (some .int)) ({ frames := 0, cells := 0, slots := 0, locals := 0 } : Room) (va_Pc [.ref h] (fun U => U.heap.size = sz ∧ va_P G.1 gCl [oc h 0 [.ref h_kinds, .ref h_now, .ref h_fault, .ref h_tape, .int taped, .int reads, .ref h_got, .ref h_failing, .ref h_past, .int undoMany, .ref h_aside, .ref h_best, .ref h_tried, .ref h_kept, .ref h_keptPast, .int keptMany, .int isKept, .ref h_sheets], ac G h_tape 70 tape] U.heap ∧ gK G U ∧ va_D (fun _ => True) [oc h 0 [.ref h_kinds, .ref h_now, .ref h_fault, .ref h_tape, .int taped, .int reads, .ref h_got, .ref h_failing, .ref h_past, .int undoMany, .ref h_aside, .ref h_best, .ref h_tried, .ref h_kept, .ref h_keptPast, .int keptMany, .int isKept, .ref h_sheets], ac G h_tape 70 tape])) ((fun A => (va_Qi (fun (r : Int32) (u : Int32) => Q r u) (fun u t => va_P G.1 gCl [oc h 0 [.ref h_kinds, .ref h_now, .ref h_fault, .ref h_tape, .int taped, .int u, .ref h_got, .ref h_failing, .ref h_past, .int undoMany, .ref h_aside, .ref h_best, .ref h_tried, .ref h_kept, .ref h_keptPast, .int keptMany, .int isKept, .ref h_sheets], ac G h_tape 70 tape] t.heap ∧ va_D A [oc h 0 [.ref h_kinds, .ref h_now, .ref h_fault, .ref h_tape, .int taped, .int u, .ref h_got, .ref h_failing, .ref h_past, .int undoMany, .ref h_aside, .ref h_best, .ref h_tried, .ref h_kept, .ref h_keptPast, .int keptMany, .int isKept, .ref h_sheets], ac G h_tape 70 tape]) A)) (va_A [oc h 0 [.ref h_kinds, .ref h_now, .ref h_fault, .ref h_tape, .int taped, .int reads, .ref h_got, .ref h_failing, .ref h_past, .int undoMany, .ref h_aside, .ref h_best, .ref h_tried, .ref h_kept, .ref h_keptPast, .int keptMany, .int isKept, .ref h_sheets], ac G h_tape 70 tape] sz)) 0 0 (va_A [oc h 0 [.ref h_kinds, .ref h_now, .ref h_fault, .ref h_tape, .int taped, .int reads, .ref h_got, .ref h_failing, .ref h_past, .int undoMany, .ref h_aside, .ref h_best, .ref h_tried, .ref h_kept, .ref h_keptPast, .int keptMany, .int isKept, .ref h_sheets], ac G h_tape 70 tape] sz) := by
  refine Met.ofW (cc := cX0_nextLetter) (maxL := 1) (ret := (some .int)) (by decide) rfl ?_
  intro p e s m args below meth c s₁ B hml hv
  obtain ⟨rfl, hsz, hP, hK, hD0⟩ := hv
  have hx := B.exec
  have hb := B.bytes
  have hr := B.returns
  have hts := atoms_spec (ws := (ws_ yX0_nextLetter cX0_nextLetter 1 (some .int))) B.pre
  have hts : ∀ w ∈ lw_all, w.before _ s = true := fun w h => hts w (List.mem_cons_of_mem _ h)
  have hown : s.vm.findClass RX0 = some m.cls := findClass_of_methodNamed B.named
  have hlocks := B.notSynchronized
  subst hsz
  have hD := hD0.self (sz := s.heap.size)
  generalize hAe : va_A [oc h 0 [.ref h_kinds, .ref h_now, .ref h_fault, .ref h_tape, .int taped, .int reads, .ref h_got, .ref h_failing, .ref h_past, .int undoMany, .ref h_aside, .ref h_best, .ref h_tried, .ref h_kept, .ref h_keptPast, .int keptMany, .int isKept, .ref h_sheets], ac G h_tape 70 tape] s.heap.size = A at hD ⊢
  have hA : ∀ q : Nat, s.heap.size ≤ q → A q := fun q h => by rw [← hAe]; exact Or.inr h
  have hS : va_S A s.heap s.heap [] := va_S.rf
  have C : Cx p s m meth c cX0_nextLetter 1 (some .int) RX0 ([.ref h] : List Value).toArray G A := ⟨hx, hb, hr, hlocks, hml, hown, hts, hK, hA⟩
  have hl := lv_entry ([.ref h]) (n := 1) (Nat.le_of_ble_eq_true rfl)
  rw [lg_entry_eq]
  generalize (lg_sl ([.ref h]) ++ List.replicate (1 - (lg_sl ([.ref h])).length) Slot.unset).toArray = ls at hl ⊢
  have hl : lv_has ls 1 [(0, .ref h)] := hl
  unfold wp_X0_nextLetter at hw
  obtain ⟨j_, hw⟩ := hw
  exact wk_X0_nextLetter_0 h h_kinds h_now h_fault h_tape h_got h_failing h_past h_aside h_best h_tried h_kept h_keptPast h_sheets taped undoMany keptMany isKept tape  Q  C  j_ reads s.heap [] hP hD hS ls (lv_sub hl [0] rfl) hw
/-! BattleBench.kindBy(I)I -/
def wp_X0_kindBy (p0 : Int32) (Q : Int32 → Prop) : Prop :=
  ((¬ (p0 = (112 : Int32)) → ((¬ (p0 = (104 : Int32)) → ((¬ (p0 = (117 : Int32)) → ((¬ (p0 = (100 : Int32)) → ((¬ (p0 = (114 : Int32)) → Q (-4 : Int32)) ∧ ((p0 = (114 : Int32)) → Q (4 : Int32)))) ∧ ((p0 = (100 : Int32)) → Q (3 : Int32)))) ∧ ((p0 = (117 : Int32)) → Q (2 : Int32)))) ∧ ((p0 = (104 : Int32)) → Q (1 : Int32)))) ∧ ((p0 = (112 : Int32)) → Q (0 : Int32)))
set_option maxHeartbeats 4000000 in
theorem mt_X0_kindBy (l : Launch) (G : GT)  (sz : Nat) (p0 : Int32) (Q : Int32 → Prop) (hw : wp_X0_kindBy p0 Q) : Met l yX0_kindBy (ws_ yX0_kindBy cX0_kindBy 1 (some .int)) ({ frames := 0, cells := 0, slots := 0, locals := 0 } : Room) (va_Pc [.int p0] (fun U => U.heap.size = sz ∧ va_P G.1 gCl [] U.heap ∧ gK G U ∧ va_D (fun _ => True) [])) ((fun A => (va_Qi (fun (r : Int32) (u : Unit) => Q r ) (fun u t => va_P G.1 gCl [] t.heap ∧ va_D A []) A)) (va_A [] sz)) 0 0 (va_A [] sz) := by
  refine Met.ofW (cc := cX0_kindBy) (maxL := 1) (ret := (some .int)) (by decide) rfl ?_
  intro p e s m args below meth c s₁ B hml hv
  obtain ⟨rfl, hsz, hP, hK, hD0⟩ := hv
  have hx := B.exec
  have hb := B.bytes
  have hr := B.returns
  have hts := atoms_spec (ws := (ws_ yX0_kindBy cX0_kindBy 1 (some .int))) B.pre
  have hts : ∀ w ∈ lw_all, w.before _ s = true := fun w h => hts w (List.mem_cons_of_mem _ h)
  have hown : s.vm.findClass RX0 = some m.cls := findClass_of_methodNamed B.named
  have hlocks := B.notSynchronized
  subst hsz
  have hD := hD0.self (sz := s.heap.size)
  generalize hAe : va_A [] s.heap.size = A at hD ⊢
  have hA : ∀ q : Nat, s.heap.size ≤ q → A q := fun q h => by rw [← hAe]; exact Or.inr h
  have hS : va_S A s.heap s.heap [] := va_S.rf
  have C : Cx p s m meth c cX0_kindBy 1 (some .int) RX0 ([.int p0] : List Value).toArray G A := ⟨hx, hb, hr, hlocks, hml, hown, hts, hK, hA⟩
  have hl := lv_entry ([.int p0]) (n := 1) (Nat.le_of_ble_eq_true rfl)
  rw [lg_entry_eq]
  generalize (lg_sl ([.int p0]) ++ List.replicate (1 - (lg_sl ([.int p0])).length) Slot.unset).toArray = ls at hl ⊢
  have hl : lv_has ls 1 [(0, .int p0)] := hl
  unfold wp_X0_kindBy at hw
  refine lv_iload_n hx hb dX0_kindBy_0 rfl (lv_at hl 0 rfl) ?_
  refine lv_bipush (v := (112 : Int32)) hx hb dX0_kindBy_1 (by decide) ?_
  refine lv_icmp_ne (tgt := 10) hx hb dX0_kindBy_3 (by decide) (fun c_1 => ?_) (fun c_1 => ?_)
  · replace hw := hw.1 c_1
    refine lv_iload_n hx hb dX0_kindBy_10 rfl (lv_at hl 0 rfl) ?_
    refine lv_bipush (v := (104 : Int32)) hx hb dX0_kindBy_11 (by decide) ?_
    refine lv_icmp_ne (tgt := 20) hx hb dX0_kindBy_13 (by decide) (fun c_2 => ?_) (fun c_2 => ?_)
    · replace hw := hw.1 c_2
      refine lv_iload_n hx hb dX0_kindBy_20 rfl (lv_at hl 0 rfl) ?_
      refine lv_bipush (v := (117 : Int32)) hx hb dX0_kindBy_21 (by decide) ?_
      refine lv_icmp_ne (tgt := 30) hx hb dX0_kindBy_23 (by decide) (fun c_3 => ?_) (fun c_3 => ?_)
      · replace hw := hw.1 c_3
        refine lv_iload_n hx hb dX0_kindBy_30 rfl (lv_at hl 0 rfl) ?_
        refine lv_bipush (v := (100 : Int32)) hx hb dX0_kindBy_31 (by decide) ?_
        refine lv_icmp_ne (tgt := 40) hx hb dX0_kindBy_33 (by decide) (fun c_4 => ?_) (fun c_4 => ?_)
        · replace hw := hw.1 c_4
          refine lv_iload_n hx hb dX0_kindBy_40 rfl (lv_at hl 0 rfl) ?_
          refine lv_bipush (v := (114 : Int32)) hx hb dX0_kindBy_41 (by decide) ?_
          refine lv_icmp_ne (tgt := 50) hx hb dX0_kindBy_43 (by decide) (fun c_5 => ?_) (fun c_5 => ?_)
          · replace hw := hw.1 c_5
            refine lv_bipush (v := (-4 : Int32)) hx hb dX0_kindBy_50 (by decide) ?_
            have hP9 := hP
            have hD9 := hD
            exact W.iret (v := (-4 : Int32)) hx hb hr (fun t ht hW => ⟨⟨(-4 : Int32), (), rfl, hw, by rw [ht]; exact hP9, hD9⟩, hS.F ht⟩) hS.2.2 dX0_kindBy_52
          · replace hw := hw.2 c_5
            refine lv_iconst (v := (4 : Int32)) hx hb dX0_kindBy_46 (by decide) ?_
            refine lv_goto (tgt := 52) hx hb dX0_kindBy_47 (by decide) ?_
            have hP9 := hP
            have hD9 := hD
            exact W.iret (v := (4 : Int32)) hx hb hr (fun t ht hW => ⟨⟨(4 : Int32), (), rfl, hw, by rw [ht]; exact hP9, hD9⟩, hS.F ht⟩) hS.2.2 dX0_kindBy_52
        · replace hw := hw.2 c_4
          refine lv_iconst (v := (3 : Int32)) hx hb dX0_kindBy_36 (by decide) ?_
          refine lv_goto (tgt := 52) hx hb dX0_kindBy_37 (by decide) ?_
          have hP9 := hP
          have hD9 := hD
          exact W.iret (v := (3 : Int32)) hx hb hr (fun t ht hW => ⟨⟨(3 : Int32), (), rfl, hw, by rw [ht]; exact hP9, hD9⟩, hS.F ht⟩) hS.2.2 dX0_kindBy_52
      · replace hw := hw.2 c_3
        refine lv_iconst (v := (2 : Int32)) hx hb dX0_kindBy_26 (by decide) ?_
        refine lv_goto (tgt := 52) hx hb dX0_kindBy_27 (by decide) ?_
        have hP9 := hP
        have hD9 := hD
        exact W.iret (v := (2 : Int32)) hx hb hr (fun t ht hW => ⟨⟨(2 : Int32), (), rfl, hw, by rw [ht]; exact hP9, hD9⟩, hS.F ht⟩) hS.2.2 dX0_kindBy_52
    · replace hw := hw.2 c_2
      refine lv_iconst (v := (1 : Int32)) hx hb dX0_kindBy_16 (by decide) ?_
      refine lv_goto (tgt := 52) hx hb dX0_kindBy_17 (by decide) ?_
      have hP9 := hP
      have hD9 := hD
      exact W.iret (v := (1 : Int32)) hx hb hr (fun t ht hW => ⟨⟨(1 : Int32), (), rfl, hw, by rw [ht]; exact hP9, hD9⟩, hS.F ht⟩) hS.2.2 dX0_kindBy_52
  · replace hw := hw.2 c_1
    refine lv_iconst (v := (0 : Int32)) hx hb dX0_kindBy_6 (by decide) ?_
    refine lv_goto (tgt := 52) hx hb dX0_kindBy_7 (by decide) ?_
    have hP9 := hP
    have hD9 := hD
    exact W.iret (v := (0 : Int32)) hx hb hr (fun t ht hW => ⟨⟨(0 : Int32), (), rfl, hw, by rw [ht]; exact hP9, hD9⟩, hS.F ht⟩) hS.2.2 dX0_kindBy_52
/-! BattleBench.isSign(I)Z -/
def wp_X0_isSign (taped : Int32) (reads : Int32) (tape : Nat → Int32) (p1 : Int32) (Q : Int32 → (Int32) → Prop) : Prop :=
  wp_X0_nextLetter taped reads tape  (fun r_1 u_2 => (((r_1 = p1) → (∀ v_4 : Int32, v_4 = (u_2 + (1 : Int32)) → Q (1 : Int32) v_4)) ∧ (¬ (r_1 = p1) → Q (0 : Int32) u_2)))
set_option maxHeartbeats 4000000 in
theorem mt_X0_isSign (l : Launch) (G : GT) (h h_kinds h_now h_fault h_tape h_got h_failing h_past h_aside h_best h_tried h_kept h_keptPast h_sheets : Nat) (sz : Nat) (taped : Int32) (reads : Int32) (undoMany : Int32) (keptMany : Int32) (isKept : Int32) (tape : Nat → Int32) (p1 : Int32) (Q : Int32 → (Int32) → Prop) (hw : wp_X0_isSign taped reads tape p1 Q) : Met l yX0_isSign (ws_ yX0_isSign cX0_isSign 2 (some .boolean)) ({ frames := 1, cells := 0, slots := 0, locals := 20 } : Room) (va_Pc [.ref h, .int p1] (fun U => U.heap.size = sz ∧ va_P G.1 gCl [oc h 0 [.ref h_kinds, .ref h_now, .ref h_fault, .ref h_tape, .int taped, .int reads, .ref h_got, .ref h_failing, .ref h_past, .int undoMany, .ref h_aside, .ref h_best, .ref h_tried, .ref h_kept, .ref h_keptPast, .int keptMany, .int isKept, .ref h_sheets], ac G h_tape 70 tape] U.heap ∧ gK G U ∧ va_D (fun _ => True) [oc h 0 [.ref h_kinds, .ref h_now, .ref h_fault, .ref h_tape, .int taped, .int reads, .ref h_got, .ref h_failing, .ref h_past, .int undoMany, .ref h_aside, .ref h_best, .ref h_tried, .ref h_kept, .ref h_keptPast, .int keptMany, .int isKept, .ref h_sheets], ac G h_tape 70 tape])) ((fun A => (va_Qi (fun (r : Int32) (u : Int32) => Q r u) (fun u t => va_P G.1 gCl [oc h 0 [.ref h_kinds, .ref h_now, .ref h_fault, .ref h_tape, .int taped, .int u, .ref h_got, .ref h_failing, .ref h_past, .int undoMany, .ref h_aside, .ref h_best, .ref h_tried, .ref h_kept, .ref h_keptPast, .int keptMany, .int isKept, .ref h_sheets], ac G h_tape 70 tape] t.heap ∧ va_D A [oc h 0 [.ref h_kinds, .ref h_now, .ref h_fault, .ref h_tape, .int taped, .int u, .ref h_got, .ref h_failing, .ref h_past, .int undoMany, .ref h_aside, .ref h_best, .ref h_tried, .ref h_kept, .ref h_keptPast, .int keptMany, .int isKept, .ref h_sheets], ac G h_tape 70 tape]) A)) (va_A [oc h 0 [.ref h_kinds, .ref h_now, .ref h_fault, .ref h_tape, .int taped, .int reads, .ref h_got, .ref h_failing, .ref h_past, .int undoMany, .ref h_aside, .ref h_best, .ref h_tried, .ref h_kept, .ref h_keptPast, .int keptMany, .int isKept, .ref h_sheets], ac G h_tape 70 tape] sz)) 0 0 (va_A [oc h 0 [.ref h_kinds, .ref h_now, .ref h_fault, .ref h_tape, .int taped, .int reads, .ref h_got, .ref h_failing, .ref h_past, .int undoMany, .ref h_aside, .ref h_best, .ref h_tried, .ref h_kept, .ref h_keptPast, .int keptMany, .int isKept, .ref h_sheets], ac G h_tape 70 tape] sz) := by
  refine Met.ofW (cc := cX0_isSign) (maxL := 2) (ret := (some .boolean)) (by decide) rfl ?_
  intro p e s m args below meth c s₁ B hml hv
  obtain ⟨rfl, hsz, hP, hK, hD0⟩ := hv
  have hx := B.exec
  have hb := B.bytes
  have hr := B.returns
  have hts := atoms_spec (ws := (ws_ yX0_isSign cX0_isSign 2 (some .boolean))) B.pre
  have hts : ∀ w ∈ lw_all, w.before _ s = true := fun w h => hts w (List.mem_cons_of_mem _ h)
  have hown : s.vm.findClass RX0 = some m.cls := findClass_of_methodNamed B.named
  have hlocks := B.notSynchronized
  subst hsz
  have hD := hD0.self (sz := s.heap.size)
  generalize hAe : va_A [oc h 0 [.ref h_kinds, .ref h_now, .ref h_fault, .ref h_tape, .int taped, .int reads, .ref h_got, .ref h_failing, .ref h_past, .int undoMany, .ref h_aside, .ref h_best, .ref h_tried, .ref h_kept, .ref h_keptPast, .int keptMany, .int isKept, .ref h_sheets], ac G h_tape 70 tape] s.heap.size = A at hD ⊢
  have hA : ∀ q : Nat, s.heap.size ≤ q → A q := fun q h => by rw [← hAe]; exact Or.inr h
  have hS : va_S A s.heap s.heap [] := va_S.rf
  have C : Cx p s m meth c cX0_isSign 2 (some .boolean) RX0 ([.ref h, .int p1] : List Value).toArray G A := ⟨hx, hb, hr, hlocks, hml, hown, hts, hK, hA⟩
  have hl := lv_entry ([.ref h, .int p1]) (n := 2) (Nat.le_of_ble_eq_true rfl)
  rw [lg_entry_eq]
  generalize (lg_sl ([.ref h, .int p1]) ++ List.replicate (2 - (lg_sl ([.ref h, .int p1])).length) Slot.unset).toArray = ls at hl ⊢
  have hl : lv_has ls 2 [(0, .ref h), (1, .int p1)] := hl
  unfold wp_X0_isSign at hw
  refine lv_aload_n hx hb dX0_isSign_0 rfl (lv_at hl 0 rfl) ?_
  have hPc := hP.sub (ws' := [oc h 0 [.ref h_kinds, .ref h_now, .ref h_fault, .ref h_tape, .int taped, .int reads, .ref h_got, .ref h_failing, .ref h_past, .int undoMany, .ref h_aside, .ref h_best, .ref h_tried, .ref h_kept, .ref h_keptPast, .int keptMany, .int isKept, .ref h_sheets], ac G h_tape 70 tape]) [0, 1] rfl
  have hDc := hD.sub (ws' := [oc h 0 [.ref h_kinds, .ref h_now, .ref h_fault, .ref h_tape, .int taped, .int reads, .ref h_got, .ref h_failing, .ref h_past, .int undoMany, .ref h_aside, .ref h_best, .ref h_tried, .ref h_kept, .ref h_keptPast, .int keptMany, .int isKept, .ref h_sheets], ac G h_tape 70 tape]) [0, 1] (by decide) rfl
  have hFc := va_free (wc := [oc h 0 [.ref h_kinds, .ref h_now, .ref h_fault, .ref h_tape, .int taped, .int reads, .ref h_got, .ref h_failing, .ref h_past, .int undoMany, .ref h_aside, .ref h_best, .ref h_tried, .ref h_kept, .ref h_keptPast, .int keptMany, .int isKept, .ref h_sheets], ac G h_tape 70 tape]) hD hS hA [0, 1] rfl
  refine va_calli (va_runV (As := []) (rest := []) ⟨hx, hb, hml, hown, hts⟩ (mt_X0_nextLetter l G h h_kinds h_now h_fault h_tape h_got h_failing h_past h_aside h_best h_tried h_kept h_keptPast h_sheets s.heap.size taped reads undoMany keptMany isKept tape  _ hw) (cwV 0 hts (lw_V q453 q455 qs6 q54 q456) rfl rfl rfl (by decide +kernel) ⟨Nat.le_of_ble_eq_true rfl, Nat.le_of_ble_eq_true rfl⟩) ⟨fun a U g mk q => by obtain ⟨q0, q1, qP, qK, qD⟩ := q; exact ⟨q0, q1, qP, qK.call, qD⟩, va_recv hK.1 hP (ci := 0) (q0 := 0) rfl rfl, fun U hU hW => ⟨rfl, by rw [hU], by rw [hU]; exact hPc, hK.warm hW, hDc.weaken (fun _ _ _ _ => trivial)⟩⟩ rfl rfl hl.1 rfl (lv_room (Nat.le_of_ble_eq_true rfl)) dX0_isSign_1 ⟨Nat.le_of_ble_eq_true rfl, Nat.le_of_ble_eq_true rfl⟩) hS (fun q _ h => hFc q h) hFc (fun r_1 u_2 t H1 locs ht hvm hw hB hz1 hk1 hS => ?_)
  obtain ⟨hP1, hD1⟩ := hB
  rw [ht] at hP1
  obtain ⟨hP, hD⟩ := va_join (wr := []) (w1 := [oc h 0 [.ref h_kinds, .ref h_now, .ref h_fault, .ref h_tape, .int taped, .int u_2, .ref h_got, .ref h_failing, .ref h_past, .int undoMany, .ref h_aside, .ref h_best, .ref h_tried, .ref h_kept, .ref h_keptPast, .int keptMany, .int isKept, .ref h_sheets], ac G h_tape 70 tape]) hP hD [0, 1] [] rfl rfl (by decide) (by decide) hk1 hFc hP1 hD1
  clear hPc hDc hFc hP1 hD1 hz1 hk1 hvm
  generalize H1 = H at hP hS ⊢
  have hP : va_P G.1 gCl [oc h 0 [.ref h_kinds, .ref h_now, .ref h_fault, .ref h_tape, .int taped, .int u_2, .ref h_got, .ref h_failing, .ref h_past, .int undoMany, .ref h_aside, .ref h_best, .ref h_tried, .ref h_kept, .ref h_keptPast, .int keptMany, .int isKept, .ref h_sheets], ac G h_tape 70 tape] H := hP
  have hD : va_D A [oc h 0 [.ref h_kinds, .ref h_now, .ref h_fault, .ref h_tape, .int taped, .int u_2, .ref h_got, .ref h_failing, .ref h_past, .int undoMany, .ref h_aside, .ref h_best, .ref h_tried, .ref h_kept, .ref h_keptPast, .int keptMany, .int isKept, .ref h_sheets], ac G h_tape 70 tape] := hD
  refine lv_iload_n hx hb dX0_isSign_4 rfl (lv_at hl 1 rfl) ?_
  refine lv_icmp_eq (tgt := 10) hx hb dX0_isSign_5 (by decide) (fun c_3 => ?_) (fun c_3 => ?_)
  · replace hw := hw.1 c_3
    refine lv_aload_n hx hb dX0_isSign_10 rfl (lv_at hl 0 rfl) ?_
    refine lv_dup hx hb dX0_isSign_11 rfl ?_
    refine va_get (D := G.1) (ci := 0) (v := .int u_2) (C := RX0) (T := TX0) (N := 18) hx hb hts in_X0 hown hK.1 hP 0 rfl rfl 5 (by decide) (hts _ q261) (fun _ h9 => h9) rfl dX0_isSign_12 ?_
    refine lv_iconst (v := (1 : Int32)) hx hb dX0_isSign_15 (by decide) ?_
    refine lv_iadd hx hb dX0_isSign_16 ?_
    refine lv_topi (fun v_4 ev_4 => ?_)
    replace hw := hw v_4 ev_4
    refine va_put (D := G.1) (ci := 0) (v := .int v_4) (ty := .int) (C := RX0) (T := TX0) (N := 18) hx hb hts in_X0 tyX0 tyX0_ok nmX0 hown hK.1 hP hD hS 0 rfl rfl 5 (by decide) (hts _ q261) (fun _ h9 => h9) rfl (by decide +kernel) rfl rfl (Nat.le_of_ble_eq_true rfl) dX0_isSign_17 (fun H locs hP hD hS => ?_)
    have hP : va_P G.1 gCl [oc h 0 [.ref h_kinds, .ref h_now, .ref h_fault, .ref h_tape, .int taped, .int v_4, .ref h_got, .ref h_failing, .ref h_past, .int undoMany, .ref h_aside, .ref h_best, .ref h_tried, .ref h_kept, .ref h_keptPast, .int keptMany, .int isKept, .ref h_sheets], ac G h_tape 70 tape] H := hP
    have hD : va_D A [oc h 0 [.ref h_kinds, .ref h_now, .ref h_fault, .ref h_tape, .int taped, .int v_4, .ref h_got, .ref h_failing, .ref h_past, .int undoMany, .ref h_aside, .ref h_best, .ref h_tried, .ref h_kept, .ref h_keptPast, .int keptMany, .int isKept, .ref h_sheets], ac G h_tape 70 tape] := hD
    refine lv_iconst (v := (1 : Int32)) hx hb dX0_isSign_20 (by decide) ?_
    have hP9 := hP
    have hD9 := hD
    exact W.zret (v := (1 : Int32)) hx hb hr rfl (fun t ht hW => ⟨⟨(1 : Int32), v_4, rfl, hw, by rw [ht]; exact hP9, hD9⟩, hS.F ht⟩) hS.2.2 dX0_isSign_21
  · replace hw := hw.2 c_3
    refine lv_iconst (v := (0 : Int32)) hx hb dX0_isSign_8 (by decide) ?_
    have hP9 := hP
    have hD9 := hD
    exact W.zret (v := (0 : Int32)) hx hb hr rfl (fun t ht hW => ⟨⟨(0 : Int32), u_2, rfl, hw, by rw [ht]; exact hP9, hD9⟩, hS.F ht⟩) hS.2.2 dX0_isSign_9
/-! BattleBench.allLife()I -/
def wp_X0_allLife_4 (now : BT) (Q : Int32 → Prop)  : Nat → Int32 → Int32 → Prop
  | 0, _, _ => False
  | n + 1, x1, x2 =>
    ((((mn now) ≤ x2) → Q x1) ∧ (¬ ((mn now) ≤ x2) → (vp_in x2 6 ∧ (∀ v_3 : Int32, v_3 = (x1 + ((lf now) x2.toNatClampNeg)) → wp_X0_allLife_4 now Q  n v_3 (x2 + (1 : Int32))))))
set_option maxHeartbeats 4000000 in
theorem wk_X0_allLife_4 {p : Program} {l : Launch} {e : Env} {s : State} {m : MethodId} {below : List Frame} {meth : Method} {c : Code} {args : Array Value} {G : GT} {A : Nat → Prop} (h h_kinds h_now h_fault h_tape h_got h_failing h_past h_aside h_best h_tried h_kept h_keptPast h_sheets h_now_0 h_now_1 h_now_2 h_now_3 : Nat) (taped : Int32) (reads : Int32) (undoMany : Int32) (keptMany : Int32) (isKept : Int32) (now : BT) (Q : Int32 → Prop)  (C : Cx p s m meth c cX0_allLife 3 (some .int) RX0 args G A)  :
    ∀ (n : Nat), ∀  (x1 : Int32) (x2 : Int32) (H : Heap) (locs : List Loc), va_P G.1 gCl [oc h 0 [.ref h_kinds, .ref h_now, .ref h_fault, .ref h_tape, .int taped, .int reads, .ref h_got, .ref h_failing, .ref h_past, .int undoMany, .ref h_aside, .ref h_best, .ref h_tried, .ref h_kept, .ref h_keptPast, .int keptMany, .int isKept, .ref h_sheets], oc h_now 6 [.ref h_now_0, .ref h_now_1, .ref h_now_2, .ref h_now_3, .int (mn now), .int (ma now), .int (yr now), .int (dw now)], ai G h_now_0 6 (kd now), ai G h_now_1 18 (pl now), ai G h_now_2 6 (lf now), ai G h_now_3 6 (se now)] H → va_D A [oc h 0 [.ref h_kinds, .ref h_now, .ref h_fault, .ref h_tape, .int taped, .int reads, .ref h_got, .ref h_failing, .ref h_past, .int undoMany, .ref h_aside, .ref h_best, .ref h_tried, .ref h_kept, .ref h_keptPast, .int keptMany, .int isKept, .ref h_sheets], oc h_now 6 [.ref h_now_0, .ref h_now_1, .ref h_now_2, .ref h_now_3, .int (mn now), .int (ma now), .int (yr now), .int (dw now)], ai G h_now_0 6 (kd now), ai G h_now_1 18 (pl now), ai G h_now_2 6 (lf now), ai G h_now_3 6 (se now)] → va_S A s.heap H locs → ∀ (ls : Array Slot), lv_has ls 3 [(0, .ref h), (1, .int x1), (2, .int x2)] → wp_X0_allLife_4 now Q  n x1 x2 → W p l e ({ frames := 0, cells := 0, slots := 0, locals := 0 } : Room) s m args below meth c H locs 0 0 (MQ below (va_Qi (fun (r : Int32) (u : Unit) => Q r ) (fun u t => va_P G.1 gCl [oc h 0 [.ref h_kinds, .ref h_now, .ref h_fault, .ref h_tape, .int taped, .int reads, .ref h_got, .ref h_failing, .ref h_past, .int undoMany, .ref h_aside, .ref h_best, .ref h_tried, .ref h_kept, .ref h_keptPast, .int keptMany, .int isKept, .ref h_sheets], oc h_now 6 [.ref h_now_0, .ref h_now_1, .ref h_now_2, .ref h_now_3, .int (mn now), .int (ma now), .int (yr now), .int (dw now)], ai G h_now_0 6 (kd now), ai G h_now_1 18 (pl now), ai G h_now_2 6 (lf now), ai G h_now_3 6 (se now)] t.heap ∧ va_D A [oc h 0 [.ref h_kinds, .ref h_now, .ref h_fault, .ref h_tape, .int taped, .int reads, .ref h_got, .ref h_failing, .ref h_past, .int undoMany, .ref h_aside, .ref h_best, .ref h_tried, .ref h_kept, .ref h_keptPast, .int keptMany, .int isKept, .ref h_sheets], oc h_now 6 [.ref h_now_0, .ref h_now_1, .ref h_now_2, .ref h_now_3, .int (mn now), .int (ma now), .int (yr now), .int (dw now)], ai G h_now_0 6 (kd now), ai G h_now_1 18 (pl now), ai G h_now_2 6 (lf now), ai G h_now_3 6 (se now)]) A) args s 0 0 A) (F0 m 4 ls []) := by
  have C9 := C
  obtain ⟨hx, hb, hr, hlocks, hml, hown, hts, hK, hA⟩ := C9
  intro n
  induction n with
  | zero => intro x1 x2 H locs hP hD hS ls hl hw; exact False.elim hw
  | succ n ih =>
    intro x1 x2 H locs hP hD hS ls hl hw
    unfold wp_X0_allLife_4 at hw
    refine lv_iload_n hx hb dX0_allLife_4 rfl (lv_at hl 2 rfl) ?_
    refine lv_aload_n hx hb dX0_allLife_5 rfl (lv_at hl 0 rfl) ?_
    refine va_get (D := G.1) (ci := 0) (v := .ref h_now) (C := RX0) (T := TX0) (N := 18) hx hb hts in_X0 hown hK.1 hP 0 rfl rfl 1 (by decide) (hts _ q257) (fun _ h9 => h9) rfl dX0_allLife_6 ?_
    refine va_getN (D := G.1) (ci := 6) (v := .int (mn now)) (C := RX6) (T := TX6) (N := 8) hx hb hts in_X6 hown hK.1 hP 1 rfl rfl 4 (by decide) (hK.n q136 rfl) (fun _ h9 => h9) rfl dX0_allLife_9 ?_
    refine lv_icmp_ge (tgt := 33) hx hb dX0_allLife_12 (by decide) (fun c_1 => ?_) (fun c_1 => ?_)
    · replace hw := hw.1 c_1
      refine lv_iload_n hx hb dX0_allLife_33 rfl (lv_at hl 1 rfl) ?_
      have hP9 := hP
      have hD9 := hD
      exact W.iret (v := x1) hx hb hr (fun t ht hW => ⟨⟨x1, (), rfl, hw, by rw [ht]; exact hP9, hD9⟩, hS.F ht⟩) hS.2.2 dX0_allLife_34
    · replace hw := hw.2 c_1
      refine lv_iload_n hx hb dX0_allLife_15 rfl (lv_at hl 1 rfl) ?_
      refine lv_aload_n hx hb dX0_allLife_16 rfl (lv_at hl 0 rfl) ?_
      refine va_get (D := G.1) (ci := 0) (v := .ref h_now) (C := RX0) (T := TX0) (N := 18) hx hb hts in_X0 hown hK.1 hP 0 rfl rfl 1 (by decide) (hts _ q257) (fun _ h9 => h9) rfl dX0_allLife_17 ?_
      refine va_getN (D := G.1) (ci := 6) (v := .ref h_now_2) (C := RX6) (T := TX6) (N := 8) hx hb hts in_X6 hown hK.1 hP 1 rfl rfl 2 (by decide) (hK.n q132 rfl) (fun _ h9 => h9) rfl dX0_allLife_20 ?_
      refine lv_iload_n hx hb dX0_allLife_23 rfl (lv_at hl 2 rfl) ?_
      obtain ⟨i_2, hw⟩ := hw
      refine z_iald hx hb hK.1 hP 4 0 rfl rfl i_2 dX0_allLife_24 (k := x2.toNatClampNeg) rfl ?_
      refine lv_iadd hx hb dX0_allLife_25 ?_
      refine lv_topi (fun v_3 ev_3 => ?_)
      replace hw := hw v_3 ev_3
      refine lv_istore_n (lv' := [(1, .int v_3), (0, .ref h), (2, .int x2)]) hx hb dX0_allLife_26 rfl hl (by decide) rfl (fun ls hl => ?_)
      refine lv_iinc (v := (x2 + (1 : Int32))) (lv' := [(2, .int (x2 + (1 : Int32))), (1, .int v_3), (0, .ref h)]) hx hb dX0_allLife_27 hl (k := 2) rfl rfl (by decide) rfl (fun ls hl => ?_)
      refine lv_goto (tgt := 4) hx hb dX0_allLife_30 (by decide) ?_
      exact ih v_3 (x2 + (1 : Int32)) H locs hP hD hS ls (lv_sub hl [2, 1, 0] rfl) hw
def wp_X0_allLife (now : BT) (Q : Int32 → Prop) : Prop :=
  (∃ j_ : Nat, wp_X0_allLife_4 now Q  j_ (0 : Int32) (0 : Int32))
set_option maxHeartbeats 4000000 in
theorem mt_X0_allLife (l : Launch) (G : GT) (h h_kinds h_now h_fault h_tape h_got h_failing h_past h_aside h_best h_tried h_kept h_keptPast h_sheets h_now_0 h_now_1 h_now_2 h_now_3 : Nat) (sz : Nat) (taped : Int32) (reads : Int32) (undoMany : Int32) (keptMany : Int32) (isKept : Int32) (now : BT) (Q : Int32 → Prop) (hw : wp_X0_allLife now Q) : Met l yX0_allLife (ws_ yX0_allLife cX0_allLife 3 (some .int)) ({ frames := 0, cells := 0, slots := 0, locals := 0 } : Room) (va_Pc [.ref h] (fun U => U.heap.size = sz ∧ va_P G.1 gCl [oc h 0 [.ref h_kinds, .ref h_now, .ref h_fault, .ref h_tape, .int taped, .int reads, .ref h_got, .ref h_failing, .ref h_past, .int undoMany, .ref h_aside, .ref h_best, .ref h_tried, .ref h_kept, .ref h_keptPast, .int keptMany, .int isKept, .ref h_sheets], oc h_now 6 [.ref h_now_0, .ref h_now_1, .ref h_now_2, .ref h_now_3, .int (mn now), .int (ma now), .int (yr now), .int (dw now)], ai G h_now_0 6 (kd now), ai G h_now_1 18 (pl now), ai G h_now_2 6 (lf now), ai G h_now_3 6 (se now)] U.heap ∧ gK G U ∧ va_D (fun _ => True) [oc h 0 [.ref h_kinds, .ref h_now, .ref h_fault, .ref h_tape, .int taped, .int reads, .ref h_got, .ref h_failing, .ref h_past, .int undoMany, .ref h_aside, .ref h_best, .ref h_tried, .ref h_kept, .ref h_keptPast, .int keptMany, .int isKept, .ref h_sheets], oc h_now 6 [.ref h_now_0, .ref h_now_1, .ref h_now_2, .ref h_now_3, .int (mn now), .int (ma now), .int (yr now), .int (dw now)], ai G h_now_0 6 (kd now), ai G h_now_1 18 (pl now), ai G h_now_2 6 (lf now), ai G h_now_3 6 (se now)])) ((fun A => (va_Qi (fun (r : Int32) (u : Unit) => Q r ) (fun u t => va_P G.1 gCl [oc h 0 [.ref h_kinds, .ref h_now, .ref h_fault, .ref h_tape, .int taped, .int reads, .ref h_got, .ref h_failing, .ref h_past, .int undoMany, .ref h_aside, .ref h_best, .ref h_tried, .ref h_kept, .ref h_keptPast, .int keptMany, .int isKept, .ref h_sheets], oc h_now 6 [.ref h_now_0, .ref h_now_1, .ref h_now_2, .ref h_now_3, .int (mn now), .int (ma now), .int (yr now), .int (dw now)], ai G h_now_0 6 (kd now), ai G h_now_1 18 (pl now), ai G h_now_2 6 (lf now), ai G h_now_3 6 (se now)] t.heap ∧ va_D A [oc h 0 [.ref h_kinds, .ref h_now, .ref h_fault, .ref h_tape, .int taped, .int reads, .ref h_got, .ref h_failing, .ref h_past, .int undoMany, .ref h_aside, .ref h_best, .ref h_tried, .ref h_kept, .ref h_keptPast, .int keptMany, .int isKept, .ref h_sheets], oc h_now 6 [.ref h_now_0, .ref h_now_1, .ref h_now_2, .ref h_now_3, .int (mn now), .int (ma now), .int (yr now), .int (dw now)], ai G h_now_0 6 (kd now), ai G h_now_1 18 (pl now), ai G h_now_2 6 (lf now), ai G h_now_3 6 (se now)]) A)) (va_A [oc h 0 [.ref h_kinds, .ref h_now, .ref h_fault, .ref h_tape, .int taped, .int reads, .ref h_got, .ref h_failing, .ref h_past, .int undoMany, .ref h_aside, .ref h_best, .ref h_tried, .ref h_kept, .ref h_keptPast, .int keptMany, .int isKept, .ref h_sheets], oc h_now 6 [.ref h_now_0, .ref h_now_1, .ref h_now_2, .ref h_now_3, .int (mn now), .int (ma now), .int (yr now), .int (dw now)], ai G h_now_0 6 (kd now), ai G h_now_1 18 (pl now), ai G h_now_2 6 (lf now), ai G h_now_3 6 (se now)] sz)) 0 0 (va_A [oc h 0 [.ref h_kinds, .ref h_now, .ref h_fault, .ref h_tape, .int taped, .int reads, .ref h_got, .ref h_failing, .ref h_past, .int undoMany, .ref h_aside, .ref h_best, .ref h_tried, .ref h_kept, .ref h_keptPast, .int keptMany, .int isKept, .ref h_sheets], oc h_now 6 [.ref h_now_0, .ref h_now_1, .ref h_now_2, .ref h_now_3, .int (mn now), .int (ma now), .int (yr now), .int (dw now)], ai G h_now_0 6 (kd now), ai G h_now_1 18 (pl now), ai G h_now_2 6 (lf now), ai G h_now_3 6 (se now)] sz) := by
  refine Met.ofW (cc := cX0_allLife) (maxL := 3) (ret := (some .int)) (by decide) rfl ?_
  intro p e s m args below meth c s₁ B hml hv
  obtain ⟨rfl, hsz, hP, hK, hD0⟩ := hv
  have hx := B.exec
  have hb := B.bytes
  have hr := B.returns
  have hts := atoms_spec (ws := (ws_ yX0_allLife cX0_allLife 3 (some .int))) B.pre
  have hts : ∀ w ∈ lw_all, w.before _ s = true := fun w h => hts w (List.mem_cons_of_mem _ h)
  have hown : s.vm.findClass RX0 = some m.cls := findClass_of_methodNamed B.named
  have hlocks := B.notSynchronized
  subst hsz
  have hD := hD0.self (sz := s.heap.size)
  generalize hAe : va_A [oc h 0 [.ref h_kinds, .ref h_now, .ref h_fault, .ref h_tape, .int taped, .int reads, .ref h_got, .ref h_failing, .ref h_past, .int undoMany, .ref h_aside, .ref h_best, .ref h_tried, .ref h_kept, .ref h_keptPast, .int keptMany, .int isKept, .ref h_sheets], oc h_now 6 [.ref h_now_0, .ref h_now_1, .ref h_now_2, .ref h_now_3, .int (mn now), .int (ma now), .int (yr now), .int (dw now)], ai G h_now_0 6 (kd now), ai G h_now_1 18 (pl now), ai G h_now_2 6 (lf now), ai G h_now_3 6 (se now)] s.heap.size = A at hD ⊢
  have hA : ∀ q : Nat, s.heap.size ≤ q → A q := fun q h => by rw [← hAe]; exact Or.inr h
  have hS : va_S A s.heap s.heap [] := va_S.rf
  have C : Cx p s m meth c cX0_allLife 3 (some .int) RX0 ([.ref h] : List Value).toArray G A := ⟨hx, hb, hr, hlocks, hml, hown, hts, hK, hA⟩
  have hl := lv_entry ([.ref h]) (n := 3) (Nat.le_of_ble_eq_true rfl)
  rw [lg_entry_eq]
  generalize (lg_sl ([.ref h]) ++ List.replicate (3 - (lg_sl ([.ref h])).length) Slot.unset).toArray = ls at hl ⊢
  have hl : lv_has ls 3 [(0, .ref h)] := hl
  unfold wp_X0_allLife at hw
  refine lv_iconst (v := (0 : Int32)) hx hb dX0_allLife_0 (by decide) ?_
  refine lv_istore_n (lv' := [(1, .int (0 : Int32)), (0, .ref h)]) hx hb dX0_allLife_1 rfl hl (by decide) rfl (fun ls hl => ?_)
  refine lv_iconst (v := (0 : Int32)) hx hb dX0_allLife_2 (by decide) ?_
  refine lv_istore_n (lv' := [(2, .int (0 : Int32)), (1, .int (0 : Int32)), (0, .ref h)]) hx hb dX0_allLife_3 rfl hl (by decide) rfl (fun ls hl => ?_)
  obtain ⟨j_, hw⟩ := hw
  exact wk_X0_allLife_4 h h_kinds h_now h_fault h_tape h_got h_failing h_past h_aside h_best h_tried h_kept h_keptPast h_sheets h_now_0 h_now_1 h_now_2 h_now_3 taped reads undoMany keptMany isKept now  Q  C  j_ (0 : Int32) (0 : Int32) s.heap [] hP hD hS ls (lv_sub hl [2, 1, 0] rfl) hw
/-! BattleBench.wrongMany()I -/
def wp_X0_wrongMany_4 (now : BT) (Q : Int32 → Prop)  : Nat → Int32 → Int32 → Prop
  | 0, _, _ => False
  | n + 1, x1, x2 =>
    ((((ma now) ≤ x2) → Q x1) ∧ (¬ ((ma now) ≤ x2) → (vp_in (x2 - (1 : Int32)) 6 ∧ (vp_in x2 6 ∧ wp_X6_stoodBy now ((se now) ((x2 - (1 : Int32))).toNatClampNeg) ((se now) x2.toNatClampNeg) (fun r_4 => (((r_4 = 0) → (∀ v_6 : Int32, v_6 = (x1 + (1 : Int32)) → wp_X0_wrongMany_4 now Q  n v_6 (x2 + (1 : Int32)))) ∧ (¬ (r_4 = 0) → (∀ v_7 : Int32, v_7 = (x1 + (0 : Int32)) → wp_X0_wrongMany_4 now Q  n v_7 (x2 + (1 : Int32))))))))))
set_option maxHeartbeats 4000000 in
theorem wk_X0_wrongMany_4 {p : Program} {l : Launch} {e : Env} {s : State} {m : MethodId} {below : List Frame} {meth : Method} {c : Code} {args : Array Value} {G : GT} {A : Nat → Prop} (h h_kinds h_now h_fault h_tape h_got h_failing h_past h_aside h_best h_tried h_kept h_keptPast h_sheets h_now_0 h_now_1 h_now_2 h_now_3 : Nat) (taped : Int32) (reads : Int32) (undoMany : Int32) (keptMany : Int32) (isKept : Int32) (now : BT) (Q : Int32 → Prop)  (C : Cx p s m meth c cX0_wrongMany 3 (some .int) RX0 args G A)  :
    ∀ (n : Nat), ∀  (x1 : Int32) (x2 : Int32) (H : Heap) (locs : List Loc), va_P G.1 gCl [oc h 0 [.ref h_kinds, .ref h_now, .ref h_fault, .ref h_tape, .int taped, .int reads, .ref h_got, .ref h_failing, .ref h_past, .int undoMany, .ref h_aside, .ref h_best, .ref h_tried, .ref h_kept, .ref h_keptPast, .int keptMany, .int isKept, .ref h_sheets], oc h_now 6 [.ref h_now_0, .ref h_now_1, .ref h_now_2, .ref h_now_3, .int (mn now), .int (ma now), .int (yr now), .int (dw now)], ai G h_now_0 6 (kd now), ai G h_now_1 18 (pl now), ai G h_now_2 6 (lf now), ai G h_now_3 6 (se now)] H → va_D A [oc h 0 [.ref h_kinds, .ref h_now, .ref h_fault, .ref h_tape, .int taped, .int reads, .ref h_got, .ref h_failing, .ref h_past, .int undoMany, .ref h_aside, .ref h_best, .ref h_tried, .ref h_kept, .ref h_keptPast, .int keptMany, .int isKept, .ref h_sheets], oc h_now 6 [.ref h_now_0, .ref h_now_1, .ref h_now_2, .ref h_now_3, .int (mn now), .int (ma now), .int (yr now), .int (dw now)], ai G h_now_0 6 (kd now), ai G h_now_1 18 (pl now), ai G h_now_2 6 (lf now), ai G h_now_3 6 (se now)] → va_S A s.heap H locs → ∀ (ls : Array Slot), lv_has ls 3 [(0, .ref h), (1, .int x1), (2, .int x2)] → wp_X0_wrongMany_4 now Q  n x1 x2 → W p l e ({ frames := 4, cells := 0, slots := 0, locals := 115 } : Room) s m args below meth c H locs 0 0 (MQ below (va_Qi (fun (r : Int32) (u : Unit) => Q r ) (fun u t => va_P G.1 gCl [oc h 0 [.ref h_kinds, .ref h_now, .ref h_fault, .ref h_tape, .int taped, .int reads, .ref h_got, .ref h_failing, .ref h_past, .int undoMany, .ref h_aside, .ref h_best, .ref h_tried, .ref h_kept, .ref h_keptPast, .int keptMany, .int isKept, .ref h_sheets], oc h_now 6 [.ref h_now_0, .ref h_now_1, .ref h_now_2, .ref h_now_3, .int (mn now), .int (ma now), .int (yr now), .int (dw now)], ai G h_now_0 6 (kd now), ai G h_now_1 18 (pl now), ai G h_now_2 6 (lf now), ai G h_now_3 6 (se now)] t.heap ∧ va_D A [oc h 0 [.ref h_kinds, .ref h_now, .ref h_fault, .ref h_tape, .int taped, .int reads, .ref h_got, .ref h_failing, .ref h_past, .int undoMany, .ref h_aside, .ref h_best, .ref h_tried, .ref h_kept, .ref h_keptPast, .int keptMany, .int isKept, .ref h_sheets], oc h_now 6 [.ref h_now_0, .ref h_now_1, .ref h_now_2, .ref h_now_3, .int (mn now), .int (ma now), .int (yr now), .int (dw now)], ai G h_now_0 6 (kd now), ai G h_now_1 18 (pl now), ai G h_now_2 6 (lf now), ai G h_now_3 6 (se now)]) A) args s 0 0 A) (F0 m 4 ls []) := by
  have C9 := C
  obtain ⟨hx, hb, hr, hlocks, hml, hown, hts, hK, hA⟩ := C9
  intro n
  induction n with
  | zero => intro x1 x2 H locs hP hD hS ls hl hw; exact False.elim hw
  | succ n ih =>
    intro x1 x2 H locs hP hD hS ls hl hw
    unfold wp_X0_wrongMany_4 at hw
    refine lv_iload_n hx hb dX0_wrongMany_4 rfl (lv_at hl 2 rfl) ?_
    refine lv_aload_n hx hb dX0_wrongMany_5 rfl (lv_at hl 0 rfl) ?_
    refine va_get (D := G.1) (ci := 0) (v := .ref h_now) (C := RX0) (T := TX0) (N := 18) hx hb hts in_X0 hown hK.1 hP 0 rfl rfl 1 (by decide) (hts _ q257) (fun _ h9 => h9) rfl dX0_wrongMany_6 ?_
    refine va_getN (D := G.1) (ci := 6) (v := .int (ma now)) (C := RX6) (T := TX6) (N := 8) hx hb hts in_X6 hown hK.1 hP 1 rfl rfl 5 (by decide) (hK.n q138 rfl) (fun _ h9 => h9) rfl dX0_wrongMany_9 ?_
    refine lv_icmp_ge (tgt := 59) hx hb dX0_wrongMany_12 (by decide) (fun c_1 => ?_) (fun c_1 => ?_)
    · replace hw := hw.1 c_1
      refine lv_iload_n hx hb dX0_wrongMany_59 rfl (lv_at hl 1 rfl) ?_
      have hP9 := hP
      have hD9 := hD
      exact W.iret (v := x1) hx hb hr (fun t ht hW => ⟨⟨x1, (), rfl, hw, by rw [ht]; exact hP9, hD9⟩, hS.F ht⟩) hS.2.2 dX0_wrongMany_60
    · replace hw := hw.2 c_1
      refine lv_iload_n hx hb dX0_wrongMany_15 rfl (lv_at hl 1 rfl) ?_
      refine lv_aload_n hx hb dX0_wrongMany_16 rfl (lv_at hl 0 rfl) ?_
      refine va_get (D := G.1) (ci := 0) (v := .ref h_now) (C := RX0) (T := TX0) (N := 18) hx hb hts in_X0 hown hK.1 hP 0 rfl rfl 1 (by decide) (hts _ q257) (fun _ h9 => h9) rfl dX0_wrongMany_17 ?_
      refine lv_aload_n hx hb dX0_wrongMany_20 rfl (lv_at hl 0 rfl) ?_
      refine va_get (D := G.1) (ci := 0) (v := .ref h_now) (C := RX0) (T := TX0) (N := 18) hx hb hts in_X0 hown hK.1 hP 0 rfl rfl 1 (by decide) (hts _ q257) (fun _ h9 => h9) rfl dX0_wrongMany_21 ?_
      refine va_getN (D := G.1) (ci := 6) (v := .ref h_now_3) (C := RX6) (T := TX6) (N := 8) hx hb hts in_X6 hown hK.1 hP 1 rfl rfl 3 (by decide) (hK.n q134 rfl) (fun _ h9 => h9) rfl dX0_wrongMany_24 ?_
      refine lv_iload_n hx hb dX0_wrongMany_27 rfl (lv_at hl 2 rfl) ?_
      refine lv_iconst (v := (1 : Int32)) hx hb dX0_wrongMany_28 (by decide) ?_
      refine lv_isub hx hb dX0_wrongMany_29 ?_
      obtain ⟨i_2, hw⟩ := hw
      refine z_iald hx hb hK.1 hP 5 0 rfl rfl i_2 dX0_wrongMany_30 (k := ((x2 - (1 : Int32))).toNatClampNeg) rfl ?_
      refine lv_aload_n hx hb dX0_wrongMany_31 rfl (lv_at hl 0 rfl) ?_
      refine va_get (D := G.1) (ci := 0) (v := .ref h_now) (C := RX0) (T := TX0) (N := 18) hx hb hts in_X0 hown hK.1 hP 0 rfl rfl 1 (by decide) (hts _ q257) (fun _ h9 => h9) rfl dX0_wrongMany_32 ?_
      refine va_getN (D := G.1) (ci := 6) (v := .ref h_now_3) (C := RX6) (T := TX6) (N := 8) hx hb hts in_X6 hown hK.1 hP 1 rfl rfl 3 (by decide) (hK.n q134 rfl) (fun _ h9 => h9) rfl dX0_wrongMany_35 ?_
      refine lv_iload_n hx hb dX0_wrongMany_38 rfl (lv_at hl 2 rfl) ?_
      obtain ⟨i_3, hw⟩ := hw
      refine z_iald hx hb hK.1 hP 5 0 rfl rfl i_3 dX0_wrongMany_39 (k := x2.toNatClampNeg) rfl ?_
      have hPc := hP.sub (ws' := [oc h_now 6 [.ref h_now_0, .ref h_now_1, .ref h_now_2, .ref h_now_3, .int (mn now), .int (ma now), .int (yr now), .int (dw now)], ai G h_now_0 6 (kd now), ai G h_now_1 18 (pl now), ai G h_now_2 6 (lf now), ai G h_now_3 6 (se now)]) [1, 2, 3, 4, 5] rfl
      have hDc := hD.sub (ws' := [oc h_now 6 [.ref h_now_0, .ref h_now_1, .ref h_now_2, .ref h_now_3, .int (mn now), .int (ma now), .int (yr now), .int (dw now)], ai G h_now_0 6 (kd now), ai G h_now_1 18 (pl now), ai G h_now_2 6 (lf now), ai G h_now_3 6 (se now)]) [1, 2, 3, 4, 5] (by decide) rfl
      have hFc := va_free (wc := [oc h_now 6 [.ref h_now_0, .ref h_now_1, .ref h_now_2, .ref h_now_3, .int (mn now), .int (ma now), .int (yr now), .int (dw now)], ai G h_now_0 6 (kd now), ai G h_now_1 18 (pl now), ai G h_now_2 6 (lf now), ai G h_now_3 6 (se now)]) hD hS hA [1, 2, 3, 4, 5] rfl
      refine va_calli (va_runV (As := [.int ((se now) ((x2 - (1 : Int32))).toNatClampNeg), .int ((se now) x2.toNatClampNeg)]) (rest := [.int x1]) ⟨hx, hb, hml, hown, hts⟩ (mt_X6_stoodBy l G h_now h_now_0 h_now_1 h_now_2 h_now_3 H.size now ((se now) ((x2 - (1 : Int32))).toNatClampNeg) ((se now) x2.toNatClampNeg) _ hw) (cwV 2 hts (lw_V q498 q359 q360 q60 q361) rfl rfl rfl (by decide +kernel) ⟨Nat.le_of_ble_eq_true rfl, Nat.le_of_ble_eq_true rfl⟩) ⟨fun a U g mk q => by obtain ⟨q0, q1, qP, qK, qD⟩ := q; exact ⟨q0, q1, qP, qK.call, qD⟩, va_recv hK.1 hP (ci := 6) (q0 := 1) rfl rfl, fun U hU hW => ⟨rfl, by rw [hU], by rw [hU]; exact hPc, hK.warm hW, hDc.weaken (fun _ _ _ _ => trivial)⟩⟩ rfl rfl hl.1 rfl (lv_room (Nat.le_of_ble_eq_true rfl)) dX0_wrongMany_40 ⟨Nat.le_of_ble_eq_true rfl, Nat.le_of_ble_eq_true rfl⟩) hS (fun q _ h => hFc q h) hFc (fun r_4 _ t H1 locs ht hvm hw hB hz1 hk1 hS => ?_)
      obtain ⟨hP1, hD1⟩ := hB
      rw [ht] at hP1
      obtain ⟨hP, hD⟩ := va_join (wr := [oc h 0 [.ref h_kinds, .ref h_now, .ref h_fault, .ref h_tape, .int taped, .int reads, .ref h_got, .ref h_failing, .ref h_past, .int undoMany, .ref h_aside, .ref h_best, .ref h_tried, .ref h_kept, .ref h_keptPast, .int keptMany, .int isKept, .ref h_sheets]]) (w1 := [oc h_now 6 [.ref h_now_0, .ref h_now_1, .ref h_now_2, .ref h_now_3, .int (mn now), .int (ma now), .int (yr now), .int (dw now)], ai G h_now_0 6 (kd now), ai G h_now_1 18 (pl now), ai G h_now_2 6 (lf now), ai G h_now_3 6 (se now)]) hP hD [1, 2, 3, 4, 5] [0] rfl rfl (by decide) (by decide) hk1 hFc hP1 hD1
      clear hPc hDc hFc hP1 hD1 hz1 hk1 hvm
      generalize H1 = H at hP hS ⊢
      have hP : va_P G.1 gCl [oc h 0 [.ref h_kinds, .ref h_now, .ref h_fault, .ref h_tape, .int taped, .int reads, .ref h_got, .ref h_failing, .ref h_past, .int undoMany, .ref h_aside, .ref h_best, .ref h_tried, .ref h_kept, .ref h_keptPast, .int keptMany, .int isKept, .ref h_sheets], oc h_now 6 [.ref h_now_0, .ref h_now_1, .ref h_now_2, .ref h_now_3, .int (mn now), .int (ma now), .int (yr now), .int (dw now)], ai G h_now_0 6 (kd now), ai G h_now_1 18 (pl now), ai G h_now_2 6 (lf now), ai G h_now_3 6 (se now)] H := hP
      have hD : va_D A [oc h 0 [.ref h_kinds, .ref h_now, .ref h_fault, .ref h_tape, .int taped, .int reads, .ref h_got, .ref h_failing, .ref h_past, .int undoMany, .ref h_aside, .ref h_best, .ref h_tried, .ref h_kept, .ref h_keptPast, .int keptMany, .int isKept, .ref h_sheets], oc h_now 6 [.ref h_now_0, .ref h_now_1, .ref h_now_2, .ref h_now_3, .int (mn now), .int (ma now), .int (yr now), .int (dw now)], ai G h_now_0 6 (kd now), ai G h_now_1 18 (pl now), ai G h_now_2 6 (lf now), ai G h_now_3 6 (se now)] := hD
      refine lv_if_eq (tgt := 50) hx hb dX0_wrongMany_43 (by decide) (fun c_5 => ?_) (fun c_5 => ?_)
      · replace hw := hw.1 c_5
        refine lv_iconst (v := (1 : Int32)) hx hb dX0_wrongMany_50 (by decide) ?_
        refine lv_iadd hx hb dX0_wrongMany_51 ?_
        refine lv_topi (fun v_6 ev_6 => ?_)
        replace hw := hw v_6 ev_6
        refine lv_istore_n (lv' := [(1, .int v_6), (0, .ref h), (2, .int x2)]) hx hb dX0_wrongMany_52 rfl hl (by decide) rfl (fun ls hl => ?_)
        refine lv_iinc (v := (x2 + (1 : Int32))) (lv' := [(2, .int (x2 + (1 : Int32))), (1, .int v_6), (0, .ref h)]) hx hb dX0_wrongMany_53 hl (k := 2) rfl rfl (by decide) rfl (fun ls hl => ?_)
        refine lv_goto (tgt := 4) hx hb dX0_wrongMany_56 (by decide) ?_
        exact ih v_6 (x2 + (1 : Int32)) H locs hP hD hS ls (lv_sub hl [2, 1, 0] rfl) hw
      · replace hw := hw.2 c_5
        refine lv_iconst (v := (0 : Int32)) hx hb dX0_wrongMany_46 (by decide) ?_
        refine lv_goto (tgt := 51) hx hb dX0_wrongMany_47 (by decide) ?_
        refine lv_iadd hx hb dX0_wrongMany_51 ?_
        refine lv_topi (fun v_7 ev_7 => ?_)
        replace hw := hw v_7 ev_7
        refine lv_istore_n (lv' := [(1, .int v_7), (0, .ref h), (2, .int x2)]) hx hb dX0_wrongMany_52 rfl hl (by decide) rfl (fun ls hl => ?_)
        refine lv_iinc (v := (x2 + (1 : Int32))) (lv' := [(2, .int (x2 + (1 : Int32))), (1, .int v_7), (0, .ref h)]) hx hb dX0_wrongMany_53 hl (k := 2) rfl rfl (by decide) rfl (fun ls hl => ?_)
        refine lv_goto (tgt := 4) hx hb dX0_wrongMany_56 (by decide) ?_
        exact ih v_7 (x2 + (1 : Int32)) H locs hP hD hS ls (lv_sub hl [2, 1, 0] rfl) hw
def wp_X0_wrongMany (now : BT) (Q : Int32 → Prop) : Prop :=
  (∃ j_ : Nat, wp_X0_wrongMany_4 now Q  j_ (0 : Int32) (1 : Int32))
set_option maxHeartbeats 4000000 in
theorem mt_X0_wrongMany (l : Launch) (G : GT) (h h_kinds h_now h_fault h_tape h_got h_failing h_past h_aside h_best h_tried h_kept h_keptPast h_sheets h_now_0 h_now_1 h_now_2 h_now_3 : Nat) (sz : Nat) (taped : Int32) (reads : Int32) (undoMany : Int32) (keptMany : Int32) (isKept : Int32) (now : BT) (Q : Int32 → Prop) (hw : wp_X0_wrongMany now Q) : Met l yX0_wrongMany (ws_ yX0_wrongMany cX0_wrongMany 3 (some .int)) ({ frames := 4, cells := 0, slots := 0, locals := 115 } : Room) (va_Pc [.ref h] (fun U => U.heap.size = sz ∧ va_P G.1 gCl [oc h 0 [.ref h_kinds, .ref h_now, .ref h_fault, .ref h_tape, .int taped, .int reads, .ref h_got, .ref h_failing, .ref h_past, .int undoMany, .ref h_aside, .ref h_best, .ref h_tried, .ref h_kept, .ref h_keptPast, .int keptMany, .int isKept, .ref h_sheets], oc h_now 6 [.ref h_now_0, .ref h_now_1, .ref h_now_2, .ref h_now_3, .int (mn now), .int (ma now), .int (yr now), .int (dw now)], ai G h_now_0 6 (kd now), ai G h_now_1 18 (pl now), ai G h_now_2 6 (lf now), ai G h_now_3 6 (se now)] U.heap ∧ gK G U ∧ va_D (fun _ => True) [oc h 0 [.ref h_kinds, .ref h_now, .ref h_fault, .ref h_tape, .int taped, .int reads, .ref h_got, .ref h_failing, .ref h_past, .int undoMany, .ref h_aside, .ref h_best, .ref h_tried, .ref h_kept, .ref h_keptPast, .int keptMany, .int isKept, .ref h_sheets], oc h_now 6 [.ref h_now_0, .ref h_now_1, .ref h_now_2, .ref h_now_3, .int (mn now), .int (ma now), .int (yr now), .int (dw now)], ai G h_now_0 6 (kd now), ai G h_now_1 18 (pl now), ai G h_now_2 6 (lf now), ai G h_now_3 6 (se now)])) ((fun A => (va_Qi (fun (r : Int32) (u : Unit) => Q r ) (fun u t => va_P G.1 gCl [oc h 0 [.ref h_kinds, .ref h_now, .ref h_fault, .ref h_tape, .int taped, .int reads, .ref h_got, .ref h_failing, .ref h_past, .int undoMany, .ref h_aside, .ref h_best, .ref h_tried, .ref h_kept, .ref h_keptPast, .int keptMany, .int isKept, .ref h_sheets], oc h_now 6 [.ref h_now_0, .ref h_now_1, .ref h_now_2, .ref h_now_3, .int (mn now), .int (ma now), .int (yr now), .int (dw now)], ai G h_now_0 6 (kd now), ai G h_now_1 18 (pl now), ai G h_now_2 6 (lf now), ai G h_now_3 6 (se now)] t.heap ∧ va_D A [oc h 0 [.ref h_kinds, .ref h_now, .ref h_fault, .ref h_tape, .int taped, .int reads, .ref h_got, .ref h_failing, .ref h_past, .int undoMany, .ref h_aside, .ref h_best, .ref h_tried, .ref h_kept, .ref h_keptPast, .int keptMany, .int isKept, .ref h_sheets], oc h_now 6 [.ref h_now_0, .ref h_now_1, .ref h_now_2, .ref h_now_3, .int (mn now), .int (ma now), .int (yr now), .int (dw now)], ai G h_now_0 6 (kd now), ai G h_now_1 18 (pl now), ai G h_now_2 6 (lf now), ai G h_now_3 6 (se now)]) A)) (va_A [oc h 0 [.ref h_kinds, .ref h_now, .ref h_fault, .ref h_tape, .int taped, .int reads, .ref h_got, .ref h_failing, .ref h_past, .int undoMany, .ref h_aside, .ref h_best, .ref h_tried, .ref h_kept, .ref h_keptPast, .int keptMany, .int isKept, .ref h_sheets], oc h_now 6 [.ref h_now_0, .ref h_now_1, .ref h_now_2, .ref h_now_3, .int (mn now), .int (ma now), .int (yr now), .int (dw now)], ai G h_now_0 6 (kd now), ai G h_now_1 18 (pl now), ai G h_now_2 6 (lf now), ai G h_now_3 6 (se now)] sz)) 0 0 (va_A [oc h 0 [.ref h_kinds, .ref h_now, .ref h_fault, .ref h_tape, .int taped, .int reads, .ref h_got, .ref h_failing, .ref h_past, .int undoMany, .ref h_aside, .ref h_best, .ref h_tried, .ref h_kept, .ref h_keptPast, .int keptMany, .int isKept, .ref h_sheets], oc h_now 6 [.ref h_now_0, .ref h_now_1, .ref h_now_2, .ref h_now_3, .int (mn now), .int (ma now), .int (yr now), .int (dw now)], ai G h_now_0 6 (kd now), ai G h_now_1 18 (pl now), ai G h_now_2 6 (lf now), ai G h_now_3 6 (se now)] sz) := by
  refine Met.ofW (cc := cX0_wrongMany) (maxL := 3) (ret := (some .int)) (by decide) rfl ?_
  intro p e s m args below meth c s₁ B hml hv
  obtain ⟨rfl, hsz, hP, hK, hD0⟩ := hv
  have hx := B.exec
  have hb := B.bytes
  have hr := B.returns
  have hts := atoms_spec (ws := (ws_ yX0_wrongMany cX0_wrongMany 3 (some .int))) B.pre
  have hts : ∀ w ∈ lw_all, w.before _ s = true := fun w h => hts w (List.mem_cons_of_mem _ h)
  have hown : s.vm.findClass RX0 = some m.cls := findClass_of_methodNamed B.named
  have hlocks := B.notSynchronized
  subst hsz
  have hD := hD0.self (sz := s.heap.size)
  generalize hAe : va_A [oc h 0 [.ref h_kinds, .ref h_now, .ref h_fault, .ref h_tape, .int taped, .int reads, .ref h_got, .ref h_failing, .ref h_past, .int undoMany, .ref h_aside, .ref h_best, .ref h_tried, .ref h_kept, .ref h_keptPast, .int keptMany, .int isKept, .ref h_sheets], oc h_now 6 [.ref h_now_0, .ref h_now_1, .ref h_now_2, .ref h_now_3, .int (mn now), .int (ma now), .int (yr now), .int (dw now)], ai G h_now_0 6 (kd now), ai G h_now_1 18 (pl now), ai G h_now_2 6 (lf now), ai G h_now_3 6 (se now)] s.heap.size = A at hD ⊢
  have hA : ∀ q : Nat, s.heap.size ≤ q → A q := fun q h => by rw [← hAe]; exact Or.inr h
  have hS : va_S A s.heap s.heap [] := va_S.rf
  have C : Cx p s m meth c cX0_wrongMany 3 (some .int) RX0 ([.ref h] : List Value).toArray G A := ⟨hx, hb, hr, hlocks, hml, hown, hts, hK, hA⟩
  have hl := lv_entry ([.ref h]) (n := 3) (Nat.le_of_ble_eq_true rfl)
  rw [lg_entry_eq]
  generalize (lg_sl ([.ref h]) ++ List.replicate (3 - (lg_sl ([.ref h])).length) Slot.unset).toArray = ls at hl ⊢
  have hl : lv_has ls 3 [(0, .ref h)] := hl
  unfold wp_X0_wrongMany at hw
  refine lv_iconst (v := (0 : Int32)) hx hb dX0_wrongMany_0 (by decide) ?_
  refine lv_istore_n (lv' := [(1, .int (0 : Int32)), (0, .ref h)]) hx hb dX0_wrongMany_1 rfl hl (by decide) rfl (fun ls hl => ?_)
  refine lv_iconst (v := (1 : Int32)) hx hb dX0_wrongMany_2 (by decide) ?_
  refine lv_istore_n (lv' := [(2, .int (1 : Int32)), (1, .int (0 : Int32)), (0, .ref h)]) hx hb dX0_wrongMany_3 rfl hl (by decide) rfl (fun ls hl => ?_)
  obtain ⟨j_, hw⟩ := hw
  exact wk_X0_wrongMany_4 h h_kinds h_now h_fault h_tape h_got h_failing h_past h_aside h_best h_tried h_kept h_keptPast h_sheets h_now_0 h_now_1 h_now_2 h_now_3 taped reads undoMany keptMany isKept now  Q  C  j_ (0 : Int32) (1 : Int32) s.heap [] hP hD hS ls (lv_sub hl [2, 1, 0] rfl) hw
/-! BattleBench.count(I)I -/
def wp_X0_count (undoMany : Int32) (now : BT) (p1 : Int32) (Q : Int32 → Prop) : Prop :=
  ((p1 = (0 : Int32) → Q (mn now)) ∧ (p1 = (1 : Int32) → Q (ma now)) ∧ (p1 = (2 : Int32) → Q (yr now)) ∧ (p1 = (3 : Int32) → wp_X6_onBench now  (fun r_5 => Q r_5)) ∧ (p1 = (4 : Int32) → wp_X0_allLife now  (fun r_7 => Q r_7)) ∧ (p1 = (5 : Int32) → wp_X0_wrongMany now  (fun r_9 => Q r_9)) ∧ (p1 = (6 : Int32) → Q undoMany) ∧ (¬ p1 = (0 : Int32) ∧ ¬ p1 = (1 : Int32) ∧ ¬ p1 = (2 : Int32) ∧ ¬ p1 = (3 : Int32) ∧ ¬ p1 = (4 : Int32) ∧ ¬ p1 = (5 : Int32) ∧ ¬ p1 = (6 : Int32) → Q (-1 : Int32)))
set_option maxHeartbeats 4000000 in
theorem mt_X0_count (l : Launch) (G : GT) (h h_kinds h_now h_fault h_tape h_got h_failing h_past h_aside h_best h_tried h_kept h_keptPast h_sheets h_now_0 h_now_1 h_now_2 h_now_3 : Nat) (sz : Nat) (taped : Int32) (reads : Int32) (undoMany : Int32) (keptMany : Int32) (isKept : Int32) (now : BT) (p1 : Int32) (Q : Int32 → Prop) (hw : wp_X0_count undoMany now p1 Q) : Met l yX0_count (ws_ yX0_count cX0_count 2 (some .int)) ({ frames := 5, cells := 0, slots := 0, locals := 137 } : Room) (va_Pc [.ref h, .int p1] (fun U => U.heap.size = sz ∧ va_P G.1 gCl [oc h 0 [.ref h_kinds, .ref h_now, .ref h_fault, .ref h_tape, .int taped, .int reads, .ref h_got, .ref h_failing, .ref h_past, .int undoMany, .ref h_aside, .ref h_best, .ref h_tried, .ref h_kept, .ref h_keptPast, .int keptMany, .int isKept, .ref h_sheets], oc h_now 6 [.ref h_now_0, .ref h_now_1, .ref h_now_2, .ref h_now_3, .int (mn now), .int (ma now), .int (yr now), .int (dw now)], ai G h_now_0 6 (kd now), ai G h_now_1 18 (pl now), ai G h_now_2 6 (lf now), ai G h_now_3 6 (se now)] U.heap ∧ gK G U ∧ va_D (fun _ => True) [oc h 0 [.ref h_kinds, .ref h_now, .ref h_fault, .ref h_tape, .int taped, .int reads, .ref h_got, .ref h_failing, .ref h_past, .int undoMany, .ref h_aside, .ref h_best, .ref h_tried, .ref h_kept, .ref h_keptPast, .int keptMany, .int isKept, .ref h_sheets], oc h_now 6 [.ref h_now_0, .ref h_now_1, .ref h_now_2, .ref h_now_3, .int (mn now), .int (ma now), .int (yr now), .int (dw now)], ai G h_now_0 6 (kd now), ai G h_now_1 18 (pl now), ai G h_now_2 6 (lf now), ai G h_now_3 6 (se now)])) ((fun A => (va_Qi (fun (r : Int32) (u : Unit) => Q r ) (fun u t => va_P G.1 gCl [oc h 0 [.ref h_kinds, .ref h_now, .ref h_fault, .ref h_tape, .int taped, .int reads, .ref h_got, .ref h_failing, .ref h_past, .int undoMany, .ref h_aside, .ref h_best, .ref h_tried, .ref h_kept, .ref h_keptPast, .int keptMany, .int isKept, .ref h_sheets], oc h_now 6 [.ref h_now_0, .ref h_now_1, .ref h_now_2, .ref h_now_3, .int (mn now), .int (ma now), .int (yr now), .int (dw now)], ai G h_now_0 6 (kd now), ai G h_now_1 18 (pl now), ai G h_now_2 6 (lf now), ai G h_now_3 6 (se now)] t.heap ∧ va_D A [oc h 0 [.ref h_kinds, .ref h_now, .ref h_fault, .ref h_tape, .int taped, .int reads, .ref h_got, .ref h_failing, .ref h_past, .int undoMany, .ref h_aside, .ref h_best, .ref h_tried, .ref h_kept, .ref h_keptPast, .int keptMany, .int isKept, .ref h_sheets], oc h_now 6 [.ref h_now_0, .ref h_now_1, .ref h_now_2, .ref h_now_3, .int (mn now), .int (ma now), .int (yr now), .int (dw now)], ai G h_now_0 6 (kd now), ai G h_now_1 18 (pl now), ai G h_now_2 6 (lf now), ai G h_now_3 6 (se now)]) A)) (va_A [oc h 0 [.ref h_kinds, .ref h_now, .ref h_fault, .ref h_tape, .int taped, .int reads, .ref h_got, .ref h_failing, .ref h_past, .int undoMany, .ref h_aside, .ref h_best, .ref h_tried, .ref h_kept, .ref h_keptPast, .int keptMany, .int isKept, .ref h_sheets], oc h_now 6 [.ref h_now_0, .ref h_now_1, .ref h_now_2, .ref h_now_3, .int (mn now), .int (ma now), .int (yr now), .int (dw now)], ai G h_now_0 6 (kd now), ai G h_now_1 18 (pl now), ai G h_now_2 6 (lf now), ai G h_now_3 6 (se now)] sz)) 0 0 (va_A [oc h 0 [.ref h_kinds, .ref h_now, .ref h_fault, .ref h_tape, .int taped, .int reads, .ref h_got, .ref h_failing, .ref h_past, .int undoMany, .ref h_aside, .ref h_best, .ref h_tried, .ref h_kept, .ref h_keptPast, .int keptMany, .int isKept, .ref h_sheets], oc h_now 6 [.ref h_now_0, .ref h_now_1, .ref h_now_2, .ref h_now_3, .int (mn now), .int (ma now), .int (yr now), .int (dw now)], ai G h_now_0 6 (kd now), ai G h_now_1 18 (pl now), ai G h_now_2 6 (lf now), ai G h_now_3 6 (se now)] sz) := by
  refine Met.ofW (cc := cX0_count) (maxL := 2) (ret := (some .int)) (by decide) rfl ?_
  intro p e s m args below meth c s₁ B hml hv
  obtain ⟨rfl, hsz, hP, hK, hD0⟩ := hv
  have hx := B.exec
  have hb := B.bytes
  have hr := B.returns
  have hts := atoms_spec (ws := (ws_ yX0_count cX0_count 2 (some .int))) B.pre
  have hts : ∀ w ∈ lw_all, w.before _ s = true := fun w h => hts w (List.mem_cons_of_mem _ h)
  have hown : s.vm.findClass RX0 = some m.cls := findClass_of_methodNamed B.named
  have hlocks := B.notSynchronized
  subst hsz
  have hD := hD0.self (sz := s.heap.size)
  generalize hAe : va_A [oc h 0 [.ref h_kinds, .ref h_now, .ref h_fault, .ref h_tape, .int taped, .int reads, .ref h_got, .ref h_failing, .ref h_past, .int undoMany, .ref h_aside, .ref h_best, .ref h_tried, .ref h_kept, .ref h_keptPast, .int keptMany, .int isKept, .ref h_sheets], oc h_now 6 [.ref h_now_0, .ref h_now_1, .ref h_now_2, .ref h_now_3, .int (mn now), .int (ma now), .int (yr now), .int (dw now)], ai G h_now_0 6 (kd now), ai G h_now_1 18 (pl now), ai G h_now_2 6 (lf now), ai G h_now_3 6 (se now)] s.heap.size = A at hD ⊢
  have hA : ∀ q : Nat, s.heap.size ≤ q → A q := fun q h => by rw [← hAe]; exact Or.inr h
  have hS : va_S A s.heap s.heap [] := va_S.rf
  have C : Cx p s m meth c cX0_count 2 (some .int) RX0 ([.ref h, .int p1] : List Value).toArray G A := ⟨hx, hb, hr, hlocks, hml, hown, hts, hK, hA⟩
  have hl := lv_entry ([.ref h, .int p1]) (n := 2) (Nat.le_of_ble_eq_true rfl)
  rw [lg_entry_eq]
  generalize (lg_sl ([.ref h, .int p1]) ++ List.replicate (2 - (lg_sl ([.ref h, .int p1])).length) Slot.unset).toArray = ls at hl ⊢
  have hl : lv_has ls 2 [(0, .ref h), (1, .int p1)] := hl
  unfold wp_X0_count at hw
  refine lv_iload_n hx hb dX0_count_0 rfl (lv_at hl 1 rfl) ?_
  by_cases c_1 : p1 = (0 : Int32)
  · replace hw := hw.1 c_1
    refine z_tabIn (k := (0 : Int32)) (off := 43) (tgt := 44) hx hb dX0_count_1 c_1 (by decide) rfl (by decide) ?_
    refine lv_aload_n hx hb dX0_count_44 rfl (lv_at hl 0 rfl) ?_
    refine va_get (D := G.1) (ci := 0) (v := .ref h_now) (C := RX0) (T := TX0) (N := 18) hx hb hts in_X0 hown hK.1 hP 0 rfl rfl 1 (by decide) (hts _ q257) (fun _ h9 => h9) rfl dX0_count_45 ?_
    refine va_getN (D := G.1) (ci := 6) (v := .int (mn now)) (C := RX6) (T := TX6) (N := 8) hx hb hts in_X6 hown hK.1 hP 1 rfl rfl 4 (by decide) (hK.n q136 rfl) (fun _ h9 => h9) rfl dX0_count_48 ?_
    have hP9 := hP
    have hD9 := hD
    exact W.iret (v := (mn now)) hx hb hr (fun t ht hW => ⟨⟨(mn now), (), rfl, hw, by rw [ht]; exact hP9, hD9⟩, hS.F ht⟩) hS.2.2 dX0_count_51
  by_cases c_2 : p1 = (1 : Int32)
  · replace hw := hw.2.1 c_2
    refine z_tabIn (k := (1 : Int32)) (off := 51) (tgt := 52) hx hb dX0_count_1 c_2 (by decide) rfl (by decide) ?_
    refine lv_aload_n hx hb dX0_count_52 rfl (lv_at hl 0 rfl) ?_
    refine va_get (D := G.1) (ci := 0) (v := .ref h_now) (C := RX0) (T := TX0) (N := 18) hx hb hts in_X0 hown hK.1 hP 0 rfl rfl 1 (by decide) (hts _ q257) (fun _ h9 => h9) rfl dX0_count_53 ?_
    refine va_getN (D := G.1) (ci := 6) (v := .int (ma now)) (C := RX6) (T := TX6) (N := 8) hx hb hts in_X6 hown hK.1 hP 1 rfl rfl 5 (by decide) (hK.n q138 rfl) (fun _ h9 => h9) rfl dX0_count_56 ?_
    have hP9 := hP
    have hD9 := hD
    exact W.iret (v := (ma now)) hx hb hr (fun t ht hW => ⟨⟨(ma now), (), rfl, hw, by rw [ht]; exact hP9, hD9⟩, hS.F ht⟩) hS.2.2 dX0_count_59
  by_cases c_3 : p1 = (2 : Int32)
  · replace hw := hw.2.2.1 c_3
    refine z_tabIn (k := (2 : Int32)) (off := 59) (tgt := 60) hx hb dX0_count_1 c_3 (by decide) rfl (by decide) ?_
    refine lv_aload_n hx hb dX0_count_60 rfl (lv_at hl 0 rfl) ?_
    refine va_get (D := G.1) (ci := 0) (v := .ref h_now) (C := RX0) (T := TX0) (N := 18) hx hb hts in_X0 hown hK.1 hP 0 rfl rfl 1 (by decide) (hts _ q257) (fun _ h9 => h9) rfl dX0_count_61 ?_
    refine va_getN (D := G.1) (ci := 6) (v := .int (yr now)) (C := RX6) (T := TX6) (N := 8) hx hb hts in_X6 hown hK.1 hP 1 rfl rfl 6 (by decide) (hK.n q141 rfl) (fun _ h9 => h9) rfl dX0_count_64 ?_
    have hP9 := hP
    have hD9 := hD
    exact W.iret (v := (yr now)) hx hb hr (fun t ht hW => ⟨⟨(yr now), (), rfl, hw, by rw [ht]; exact hP9, hD9⟩, hS.F ht⟩) hS.2.2 dX0_count_67
  by_cases c_4 : p1 = (3 : Int32)
  · replace hw := hw.2.2.2.1 c_4
    refine z_tabIn (k := (3 : Int32)) (off := 67) (tgt := 68) hx hb dX0_count_1 c_4 (by decide) rfl (by decide) ?_
    refine lv_aload_n hx hb dX0_count_68 rfl (lv_at hl 0 rfl) ?_
    refine va_get (D := G.1) (ci := 0) (v := .ref h_now) (C := RX0) (T := TX0) (N := 18) hx hb hts in_X0 hown hK.1 hP 0 rfl rfl 1 (by decide) (hts _ q257) (fun _ h9 => h9) rfl dX0_count_69 ?_
    have hPc := hP.sub (ws' := [oc h_now 6 [.ref h_now_0, .ref h_now_1, .ref h_now_2, .ref h_now_3, .int (mn now), .int (ma now), .int (yr now), .int (dw now)], ai G h_now_0 6 (kd now), ai G h_now_1 18 (pl now), ai G h_now_2 6 (lf now), ai G h_now_3 6 (se now)]) [1, 2, 3, 4, 5] rfl
    have hDc := hD.sub (ws' := [oc h_now 6 [.ref h_now_0, .ref h_now_1, .ref h_now_2, .ref h_now_3, .int (mn now), .int (ma now), .int (yr now), .int (dw now)], ai G h_now_0 6 (kd now), ai G h_now_1 18 (pl now), ai G h_now_2 6 (lf now), ai G h_now_3 6 (se now)]) [1, 2, 3, 4, 5] (by decide) rfl
    have hFc := va_free (wc := [oc h_now 6 [.ref h_now_0, .ref h_now_1, .ref h_now_2, .ref h_now_3, .int (mn now), .int (ma now), .int (yr now), .int (dw now)], ai G h_now_0 6 (kd now), ai G h_now_1 18 (pl now), ai G h_now_2 6 (lf now), ai G h_now_3 6 (se now)]) hD hS hA [1, 2, 3, 4, 5] rfl
    refine va_calli (va_runV (As := []) (rest := []) ⟨hx, hb, hml, hown, hts⟩ (mt_X6_onBench l G h_now h_now_0 h_now_1 h_now_2 h_now_3 s.heap.size now  _ hw) (cwV 0 hts (lw_V q486 q487 q488 q60 q489) rfl rfl rfl (by decide +kernel) ⟨Nat.le_of_ble_eq_true rfl, Nat.le_of_ble_eq_true rfl⟩) ⟨fun a U g mk q => by obtain ⟨q0, q1, qP, qK, qD⟩ := q; exact ⟨q0, q1, qP, qK.call, qD⟩, va_recv hK.1 hP (ci := 6) (q0 := 1) rfl rfl, fun U hU hW => ⟨rfl, by rw [hU], by rw [hU]; exact hPc, hK.warm hW, hDc.weaken (fun _ _ _ _ => trivial)⟩⟩ rfl rfl hl.1 rfl (lv_room (Nat.le_of_ble_eq_true rfl)) dX0_count_72 ⟨Nat.le_of_ble_eq_true rfl, Nat.le_of_ble_eq_true rfl⟩) hS (fun q _ h => hFc q h) hFc (fun r_5 _ t H1 locs ht hvm hw hB hz1 hk1 hS => ?_)
    obtain ⟨hP1, hD1⟩ := hB
    rw [ht] at hP1
    obtain ⟨hP, hD⟩ := va_join (wr := [oc h 0 [.ref h_kinds, .ref h_now, .ref h_fault, .ref h_tape, .int taped, .int reads, .ref h_got, .ref h_failing, .ref h_past, .int undoMany, .ref h_aside, .ref h_best, .ref h_tried, .ref h_kept, .ref h_keptPast, .int keptMany, .int isKept, .ref h_sheets]]) (w1 := [oc h_now 6 [.ref h_now_0, .ref h_now_1, .ref h_now_2, .ref h_now_3, .int (mn now), .int (ma now), .int (yr now), .int (dw now)], ai G h_now_0 6 (kd now), ai G h_now_1 18 (pl now), ai G h_now_2 6 (lf now), ai G h_now_3 6 (se now)]) hP hD [1, 2, 3, 4, 5] [0] rfl rfl (by decide) (by decide) hk1 hFc hP1 hD1
    clear hPc hDc hFc hP1 hD1 hz1 hk1 hvm
    generalize H1 = H at hP hS ⊢
    have hP : va_P G.1 gCl [oc h 0 [.ref h_kinds, .ref h_now, .ref h_fault, .ref h_tape, .int taped, .int reads, .ref h_got, .ref h_failing, .ref h_past, .int undoMany, .ref h_aside, .ref h_best, .ref h_tried, .ref h_kept, .ref h_keptPast, .int keptMany, .int isKept, .ref h_sheets], oc h_now 6 [.ref h_now_0, .ref h_now_1, .ref h_now_2, .ref h_now_3, .int (mn now), .int (ma now), .int (yr now), .int (dw now)], ai G h_now_0 6 (kd now), ai G h_now_1 18 (pl now), ai G h_now_2 6 (lf now), ai G h_now_3 6 (se now)] H := hP
    have hD : va_D A [oc h 0 [.ref h_kinds, .ref h_now, .ref h_fault, .ref h_tape, .int taped, .int reads, .ref h_got, .ref h_failing, .ref h_past, .int undoMany, .ref h_aside, .ref h_best, .ref h_tried, .ref h_kept, .ref h_keptPast, .int keptMany, .int isKept, .ref h_sheets], oc h_now 6 [.ref h_now_0, .ref h_now_1, .ref h_now_2, .ref h_now_3, .int (mn now), .int (ma now), .int (yr now), .int (dw now)], ai G h_now_0 6 (kd now), ai G h_now_1 18 (pl now), ai G h_now_2 6 (lf now), ai G h_now_3 6 (se now)] := hD
    have hP9 := hP
    have hD9 := hD
    exact W.iret (v := r_5) hx hb hr (fun t ht hW => ⟨⟨r_5, (), rfl, hw, by rw [ht]; exact hP9, hD9⟩, hS.F ht⟩) hS.2.2 dX0_count_75
  by_cases c_6 : p1 = (4 : Int32)
  · replace hw := hw.2.2.2.2.1 c_6
    refine z_tabIn (k := (4 : Int32)) (off := 75) (tgt := 76) hx hb dX0_count_1 c_6 (by decide) rfl (by decide) ?_
    refine lv_aload_n hx hb dX0_count_76 rfl (lv_at hl 0 rfl) ?_
    have hPc := hP.sub (ws' := [oc h 0 [.ref h_kinds, .ref h_now, .ref h_fault, .ref h_tape, .int taped, .int reads, .ref h_got, .ref h_failing, .ref h_past, .int undoMany, .ref h_aside, .ref h_best, .ref h_tried, .ref h_kept, .ref h_keptPast, .int keptMany, .int isKept, .ref h_sheets], oc h_now 6 [.ref h_now_0, .ref h_now_1, .ref h_now_2, .ref h_now_3, .int (mn now), .int (ma now), .int (yr now), .int (dw now)], ai G h_now_0 6 (kd now), ai G h_now_1 18 (pl now), ai G h_now_2 6 (lf now), ai G h_now_3 6 (se now)]) [0, 1, 2, 3, 4, 5] rfl
    have hDc := hD.sub (ws' := [oc h 0 [.ref h_kinds, .ref h_now, .ref h_fault, .ref h_tape, .int taped, .int reads, .ref h_got, .ref h_failing, .ref h_past, .int undoMany, .ref h_aside, .ref h_best, .ref h_tried, .ref h_kept, .ref h_keptPast, .int keptMany, .int isKept, .ref h_sheets], oc h_now 6 [.ref h_now_0, .ref h_now_1, .ref h_now_2, .ref h_now_3, .int (mn now), .int (ma now), .int (yr now), .int (dw now)], ai G h_now_0 6 (kd now), ai G h_now_1 18 (pl now), ai G h_now_2 6 (lf now), ai G h_now_3 6 (se now)]) [0, 1, 2, 3, 4, 5] (by decide) rfl
    have hFc := va_free (wc := [oc h 0 [.ref h_kinds, .ref h_now, .ref h_fault, .ref h_tape, .int taped, .int reads, .ref h_got, .ref h_failing, .ref h_past, .int undoMany, .ref h_aside, .ref h_best, .ref h_tried, .ref h_kept, .ref h_keptPast, .int keptMany, .int isKept, .ref h_sheets], oc h_now 6 [.ref h_now_0, .ref h_now_1, .ref h_now_2, .ref h_now_3, .int (mn now), .int (ma now), .int (yr now), .int (dw now)], ai G h_now_0 6 (kd now), ai G h_now_1 18 (pl now), ai G h_now_2 6 (lf now), ai G h_now_3 6 (se now)]) hD hS hA [0, 1, 2, 3, 4, 5] rfl
    refine va_calli (va_runV (As := []) (rest := []) ⟨hx, hb, hml, hown, hts⟩ (mt_X0_allLife l G h h_kinds h_now h_fault h_tape h_got h_failing h_past h_aside h_best h_tried h_kept h_keptPast h_sheets h_now_0 h_now_1 h_now_2 h_now_3 s.heap.size taped reads undoMany keptMany isKept now  _ hw) (cwV 0 hts (lw_V q490 q492 qs12 q54 q493) rfl rfl rfl (by decide +kernel) ⟨Nat.le_of_ble_eq_true rfl, Nat.le_of_ble_eq_true rfl⟩) ⟨fun a U g mk q => by obtain ⟨q0, q1, qP, qK, qD⟩ := q; exact ⟨q0, q1, qP, qK.call, qD⟩, va_recv hK.1 hP (ci := 0) (q0 := 0) rfl rfl, fun U hU hW => ⟨rfl, by rw [hU], by rw [hU]; exact hPc, hK.warm hW, hDc.weaken (fun _ _ _ _ => trivial)⟩⟩ rfl rfl hl.1 rfl (lv_room (Nat.le_of_ble_eq_true rfl)) dX0_count_77 ⟨Nat.le_of_ble_eq_true rfl, Nat.le_of_ble_eq_true rfl⟩) hS (fun q _ h => hFc q h) hFc (fun r_7 _ t H1 locs ht hvm hw hB hz1 hk1 hS => ?_)
    obtain ⟨hP1, hD1⟩ := hB
    rw [ht] at hP1
    obtain ⟨hP, hD⟩ := va_join (wr := []) (w1 := [oc h 0 [.ref h_kinds, .ref h_now, .ref h_fault, .ref h_tape, .int taped, .int reads, .ref h_got, .ref h_failing, .ref h_past, .int undoMany, .ref h_aside, .ref h_best, .ref h_tried, .ref h_kept, .ref h_keptPast, .int keptMany, .int isKept, .ref h_sheets], oc h_now 6 [.ref h_now_0, .ref h_now_1, .ref h_now_2, .ref h_now_3, .int (mn now), .int (ma now), .int (yr now), .int (dw now)], ai G h_now_0 6 (kd now), ai G h_now_1 18 (pl now), ai G h_now_2 6 (lf now), ai G h_now_3 6 (se now)]) hP hD [0, 1, 2, 3, 4, 5] [] rfl rfl (by decide) (by decide) hk1 hFc hP1 hD1
    clear hPc hDc hFc hP1 hD1 hz1 hk1 hvm
    generalize H1 = H at hP hS ⊢
    have hP : va_P G.1 gCl [oc h 0 [.ref h_kinds, .ref h_now, .ref h_fault, .ref h_tape, .int taped, .int reads, .ref h_got, .ref h_failing, .ref h_past, .int undoMany, .ref h_aside, .ref h_best, .ref h_tried, .ref h_kept, .ref h_keptPast, .int keptMany, .int isKept, .ref h_sheets], oc h_now 6 [.ref h_now_0, .ref h_now_1, .ref h_now_2, .ref h_now_3, .int (mn now), .int (ma now), .int (yr now), .int (dw now)], ai G h_now_0 6 (kd now), ai G h_now_1 18 (pl now), ai G h_now_2 6 (lf now), ai G h_now_3 6 (se now)] H := hP
    have hD : va_D A [oc h 0 [.ref h_kinds, .ref h_now, .ref h_fault, .ref h_tape, .int taped, .int reads, .ref h_got, .ref h_failing, .ref h_past, .int undoMany, .ref h_aside, .ref h_best, .ref h_tried, .ref h_kept, .ref h_keptPast, .int keptMany, .int isKept, .ref h_sheets], oc h_now 6 [.ref h_now_0, .ref h_now_1, .ref h_now_2, .ref h_now_3, .int (mn now), .int (ma now), .int (yr now), .int (dw now)], ai G h_now_0 6 (kd now), ai G h_now_1 18 (pl now), ai G h_now_2 6 (lf now), ai G h_now_3 6 (se now)] := hD
    have hP9 := hP
    have hD9 := hD
    exact W.iret (v := r_7) hx hb hr (fun t ht hW => ⟨⟨r_7, (), rfl, hw, by rw [ht]; exact hP9, hD9⟩, hS.F ht⟩) hS.2.2 dX0_count_80
  by_cases c_8 : p1 = (5 : Int32)
  · replace hw := hw.2.2.2.2.2.1 c_8
    refine z_tabIn (k := (5 : Int32)) (off := 80) (tgt := 81) hx hb dX0_count_1 c_8 (by decide) rfl (by decide) ?_
    refine lv_aload_n hx hb dX0_count_81 rfl (lv_at hl 0 rfl) ?_
    have hPc := hP.sub (ws' := [oc h 0 [.ref h_kinds, .ref h_now, .ref h_fault, .ref h_tape, .int taped, .int reads, .ref h_got, .ref h_failing, .ref h_past, .int undoMany, .ref h_aside, .ref h_best, .ref h_tried, .ref h_kept, .ref h_keptPast, .int keptMany, .int isKept, .ref h_sheets], oc h_now 6 [.ref h_now_0, .ref h_now_1, .ref h_now_2, .ref h_now_3, .int (mn now), .int (ma now), .int (yr now), .int (dw now)], ai G h_now_0 6 (kd now), ai G h_now_1 18 (pl now), ai G h_now_2 6 (lf now), ai G h_now_3 6 (se now)]) [0, 1, 2, 3, 4, 5] rfl
    have hDc := hD.sub (ws' := [oc h 0 [.ref h_kinds, .ref h_now, .ref h_fault, .ref h_tape, .int taped, .int reads, .ref h_got, .ref h_failing, .ref h_past, .int undoMany, .ref h_aside, .ref h_best, .ref h_tried, .ref h_kept, .ref h_keptPast, .int keptMany, .int isKept, .ref h_sheets], oc h_now 6 [.ref h_now_0, .ref h_now_1, .ref h_now_2, .ref h_now_3, .int (mn now), .int (ma now), .int (yr now), .int (dw now)], ai G h_now_0 6 (kd now), ai G h_now_1 18 (pl now), ai G h_now_2 6 (lf now), ai G h_now_3 6 (se now)]) [0, 1, 2, 3, 4, 5] (by decide) rfl
    have hFc := va_free (wc := [oc h 0 [.ref h_kinds, .ref h_now, .ref h_fault, .ref h_tape, .int taped, .int reads, .ref h_got, .ref h_failing, .ref h_past, .int undoMany, .ref h_aside, .ref h_best, .ref h_tried, .ref h_kept, .ref h_keptPast, .int keptMany, .int isKept, .ref h_sheets], oc h_now 6 [.ref h_now_0, .ref h_now_1, .ref h_now_2, .ref h_now_3, .int (mn now), .int (ma now), .int (yr now), .int (dw now)], ai G h_now_0 6 (kd now), ai G h_now_1 18 (pl now), ai G h_now_2 6 (lf now), ai G h_now_3 6 (se now)]) hD hS hA [0, 1, 2, 3, 4, 5] rfl
    refine va_calli (va_runV (As := []) (rest := []) ⟨hx, hb, hml, hown, hts⟩ (mt_X0_wrongMany l G h h_kinds h_now h_fault h_tape h_got h_failing h_past h_aside h_best h_tried h_kept h_keptPast h_sheets h_now_0 h_now_1 h_now_2 h_now_3 s.heap.size taped reads undoMany keptMany isKept now  _ hw) (cwV 0 hts (lw_V q494 q496 qs13 q54 q497) rfl rfl rfl (by decide +kernel) ⟨Nat.le_of_ble_eq_true rfl, Nat.le_of_ble_eq_true rfl⟩) ⟨fun a U g mk q => by obtain ⟨q0, q1, qP, qK, qD⟩ := q; exact ⟨q0, q1, qP, qK.call, qD⟩, va_recv hK.1 hP (ci := 0) (q0 := 0) rfl rfl, fun U hU hW => ⟨rfl, by rw [hU], by rw [hU]; exact hPc, hK.warm hW, hDc.weaken (fun _ _ _ _ => trivial)⟩⟩ rfl rfl hl.1 rfl (lv_room (Nat.le_of_ble_eq_true rfl)) dX0_count_82 ⟨Nat.le_of_ble_eq_true rfl, Nat.le_of_ble_eq_true rfl⟩) hS (fun q _ h => hFc q h) hFc (fun r_9 _ t H1 locs ht hvm hw hB hz1 hk1 hS => ?_)
    obtain ⟨hP1, hD1⟩ := hB
    rw [ht] at hP1
    obtain ⟨hP, hD⟩ := va_join (wr := []) (w1 := [oc h 0 [.ref h_kinds, .ref h_now, .ref h_fault, .ref h_tape, .int taped, .int reads, .ref h_got, .ref h_failing, .ref h_past, .int undoMany, .ref h_aside, .ref h_best, .ref h_tried, .ref h_kept, .ref h_keptPast, .int keptMany, .int isKept, .ref h_sheets], oc h_now 6 [.ref h_now_0, .ref h_now_1, .ref h_now_2, .ref h_now_3, .int (mn now), .int (ma now), .int (yr now), .int (dw now)], ai G h_now_0 6 (kd now), ai G h_now_1 18 (pl now), ai G h_now_2 6 (lf now), ai G h_now_3 6 (se now)]) hP hD [0, 1, 2, 3, 4, 5] [] rfl rfl (by decide) (by decide) hk1 hFc hP1 hD1
    clear hPc hDc hFc hP1 hD1 hz1 hk1 hvm
    generalize H1 = H at hP hS ⊢
    have hP : va_P G.1 gCl [oc h 0 [.ref h_kinds, .ref h_now, .ref h_fault, .ref h_tape, .int taped, .int reads, .ref h_got, .ref h_failing, .ref h_past, .int undoMany, .ref h_aside, .ref h_best, .ref h_tried, .ref h_kept, .ref h_keptPast, .int keptMany, .int isKept, .ref h_sheets], oc h_now 6 [.ref h_now_0, .ref h_now_1, .ref h_now_2, .ref h_now_3, .int (mn now), .int (ma now), .int (yr now), .int (dw now)], ai G h_now_0 6 (kd now), ai G h_now_1 18 (pl now), ai G h_now_2 6 (lf now), ai G h_now_3 6 (se now)] H := hP
    have hD : va_D A [oc h 0 [.ref h_kinds, .ref h_now, .ref h_fault, .ref h_tape, .int taped, .int reads, .ref h_got, .ref h_failing, .ref h_past, .int undoMany, .ref h_aside, .ref h_best, .ref h_tried, .ref h_kept, .ref h_keptPast, .int keptMany, .int isKept, .ref h_sheets], oc h_now 6 [.ref h_now_0, .ref h_now_1, .ref h_now_2, .ref h_now_3, .int (mn now), .int (ma now), .int (yr now), .int (dw now)], ai G h_now_0 6 (kd now), ai G h_now_1 18 (pl now), ai G h_now_2 6 (lf now), ai G h_now_3 6 (se now)] := hD
    have hP9 := hP
    have hD9 := hD
    exact W.iret (v := r_9) hx hb hr (fun t ht hW => ⟨⟨r_9, (), rfl, hw, by rw [ht]; exact hP9, hD9⟩, hS.F ht⟩) hS.2.2 dX0_count_85
  by_cases c_10 : p1 = (6 : Int32)
  · replace hw := hw.2.2.2.2.2.2.1 c_10
    refine z_tabIn (k := (6 : Int32)) (off := 85) (tgt := 86) hx hb dX0_count_1 c_10 (by decide) rfl (by decide) ?_
    refine lv_aload_n hx hb dX0_count_86 rfl (lv_at hl 0 rfl) ?_
    refine va_get (D := G.1) (ci := 0) (v := .int undoMany) (C := RX0) (T := TX0) (N := 18) hx hb hts in_X0 hown hK.1 hP 0 rfl rfl 9 (by decide) (hts _ q265) (fun _ h9 => h9) rfl dX0_count_87 ?_
    have hP9 := hP
    have hD9 := hD
    exact W.iret (v := undoMany) hx hb hr (fun t ht hW => ⟨⟨undoMany, (), rfl, hw, by rw [ht]; exact hP9, hD9⟩, hS.F ht⟩) hS.2.2 dX0_count_90
  replace hw := hw.2.2.2.2.2.2.2 ⟨c_1, c_2, c_3, c_4, c_6, c_8, c_10⟩
  refine lv_tableOut (tgt := 91) hx hb dX0_count_1 (z_tabOut (0) 7 [(0 : Int32), (1 : Int32), (2 : Int32), (3 : Int32), (4 : Int32), (5 : Int32), (6 : Int32)] (by decide +kernel) (List.forall_mem_cons.mpr ⟨c_1, (List.forall_mem_cons.mpr ⟨c_2, (List.forall_mem_cons.mpr ⟨c_3, (List.forall_mem_cons.mpr ⟨c_4, (List.forall_mem_cons.mpr ⟨c_6, (List.forall_mem_cons.mpr ⟨c_8, (List.forall_mem_cons.mpr ⟨c_10, fun _ h9 => absurd h9 List.not_mem_nil⟩)⟩)⟩)⟩)⟩)⟩)⟩)) (by decide) ?_
  refine lv_iconst (v := (-1 : Int32)) hx hb dX0_count_91 (by decide) ?_
  have hP9 := hP
  have hD9 := hD
  exact W.iret (v := (-1 : Int32)) hx hb hr (fun t ht hW => ⟨⟨(-1 : Int32), (), rfl, hw, by rw [ht]; exact hP9, hD9⟩, hS.F ht⟩) hS.2.2 dX0_count_92
/-! BattleBench.lacksTime(I)I -/
def wp_X0_lacksTime (now : BT) (p1 : Int32) (Q : Int32 → Prop) : Prop :=
  wp_X0_isIn  (Int32.toInt64 p1) (1 : Int64) (40 : Int64) (fun r_1 => ((¬ (r_1 = 0) → (((((yr now) + p1) ≤ (9999 : Int32)) → Q (0 : Int32)) ∧ (¬ (((yr now) + p1) ≤ (9999 : Int32)) → Q (-3 : Int32)))) ∧ ((r_1 = 0) → Q (-1 : Int32))))
set_option maxHeartbeats 4000000 in
theorem mt_X0_lacksTime (l : Launch) (G : GT) (h h_kinds h_now h_fault h_tape h_got h_failing h_past h_aside h_best h_tried h_kept h_keptPast h_sheets h_now_0 h_now_1 h_now_2 h_now_3 : Nat) (sz : Nat) (taped : Int32) (reads : Int32) (undoMany : Int32) (keptMany : Int32) (isKept : Int32) (now : BT) (p1 : Int32) (Q : Int32 → Prop) (hw : wp_X0_lacksTime now p1 Q) : Met l yX0_lacksTime (ws_ yX0_lacksTime cX0_lacksTime 2 (some .int)) ({ frames := 1, cells := 0, slots := 0, locals := 25 } : Room) (va_Pc [.ref h, .int p1] (fun U => U.heap.size = sz ∧ va_P G.1 gCl [oc h 0 [.ref h_kinds, .ref h_now, .ref h_fault, .ref h_tape, .int taped, .int reads, .ref h_got, .ref h_failing, .ref h_past, .int undoMany, .ref h_aside, .ref h_best, .ref h_tried, .ref h_kept, .ref h_keptPast, .int keptMany, .int isKept, .ref h_sheets], oc h_now 6 [.ref h_now_0, .ref h_now_1, .ref h_now_2, .ref h_now_3, .int (mn now), .int (ma now), .int (yr now), .int (dw now)], ai G h_now_0 6 (kd now), ai G h_now_1 18 (pl now), ai G h_now_2 6 (lf now), ai G h_now_3 6 (se now)] U.heap ∧ gK G U ∧ va_D (fun _ => True) [oc h 0 [.ref h_kinds, .ref h_now, .ref h_fault, .ref h_tape, .int taped, .int reads, .ref h_got, .ref h_failing, .ref h_past, .int undoMany, .ref h_aside, .ref h_best, .ref h_tried, .ref h_kept, .ref h_keptPast, .int keptMany, .int isKept, .ref h_sheets], oc h_now 6 [.ref h_now_0, .ref h_now_1, .ref h_now_2, .ref h_now_3, .int (mn now), .int (ma now), .int (yr now), .int (dw now)], ai G h_now_0 6 (kd now), ai G h_now_1 18 (pl now), ai G h_now_2 6 (lf now), ai G h_now_3 6 (se now)])) ((fun A => (va_Qi (fun (r : Int32) (u : Unit) => Q r ) (fun u t => va_P G.1 gCl [oc h 0 [.ref h_kinds, .ref h_now, .ref h_fault, .ref h_tape, .int taped, .int reads, .ref h_got, .ref h_failing, .ref h_past, .int undoMany, .ref h_aside, .ref h_best, .ref h_tried, .ref h_kept, .ref h_keptPast, .int keptMany, .int isKept, .ref h_sheets], oc h_now 6 [.ref h_now_0, .ref h_now_1, .ref h_now_2, .ref h_now_3, .int (mn now), .int (ma now), .int (yr now), .int (dw now)], ai G h_now_0 6 (kd now), ai G h_now_1 18 (pl now), ai G h_now_2 6 (lf now), ai G h_now_3 6 (se now)] t.heap ∧ va_D A [oc h 0 [.ref h_kinds, .ref h_now, .ref h_fault, .ref h_tape, .int taped, .int reads, .ref h_got, .ref h_failing, .ref h_past, .int undoMany, .ref h_aside, .ref h_best, .ref h_tried, .ref h_kept, .ref h_keptPast, .int keptMany, .int isKept, .ref h_sheets], oc h_now 6 [.ref h_now_0, .ref h_now_1, .ref h_now_2, .ref h_now_3, .int (mn now), .int (ma now), .int (yr now), .int (dw now)], ai G h_now_0 6 (kd now), ai G h_now_1 18 (pl now), ai G h_now_2 6 (lf now), ai G h_now_3 6 (se now)]) A)) (va_A [oc h 0 [.ref h_kinds, .ref h_now, .ref h_fault, .ref h_tape, .int taped, .int reads, .ref h_got, .ref h_failing, .ref h_past, .int undoMany, .ref h_aside, .ref h_best, .ref h_tried, .ref h_kept, .ref h_keptPast, .int keptMany, .int isKept, .ref h_sheets], oc h_now 6 [.ref h_now_0, .ref h_now_1, .ref h_now_2, .ref h_now_3, .int (mn now), .int (ma now), .int (yr now), .int (dw now)], ai G h_now_0 6 (kd now), ai G h_now_1 18 (pl now), ai G h_now_2 6 (lf now), ai G h_now_3 6 (se now)] sz)) 0 0 (va_A [oc h 0 [.ref h_kinds, .ref h_now, .ref h_fault, .ref h_tape, .int taped, .int reads, .ref h_got, .ref h_failing, .ref h_past, .int undoMany, .ref h_aside, .ref h_best, .ref h_tried, .ref h_kept, .ref h_keptPast, .int keptMany, .int isKept, .ref h_sheets], oc h_now 6 [.ref h_now_0, .ref h_now_1, .ref h_now_2, .ref h_now_3, .int (mn now), .int (ma now), .int (yr now), .int (dw now)], ai G h_now_0 6 (kd now), ai G h_now_1 18 (pl now), ai G h_now_2 6 (lf now), ai G h_now_3 6 (se now)] sz) := by
  refine Met.ofW (cc := cX0_lacksTime) (maxL := 2) (ret := (some .int)) (by decide) rfl ?_
  intro p e s m args below meth c s₁ B hml hv
  obtain ⟨rfl, hsz, hP, hK, hD0⟩ := hv
  have hx := B.exec
  have hb := B.bytes
  have hr := B.returns
  have hts := atoms_spec (ws := (ws_ yX0_lacksTime cX0_lacksTime 2 (some .int))) B.pre
  have hts : ∀ w ∈ lw_all, w.before _ s = true := fun w h => hts w (List.mem_cons_of_mem _ h)
  have hown : s.vm.findClass RX0 = some m.cls := findClass_of_methodNamed B.named
  have hlocks := B.notSynchronized
  subst hsz
  have hD := hD0.self (sz := s.heap.size)
  generalize hAe : va_A [oc h 0 [.ref h_kinds, .ref h_now, .ref h_fault, .ref h_tape, .int taped, .int reads, .ref h_got, .ref h_failing, .ref h_past, .int undoMany, .ref h_aside, .ref h_best, .ref h_tried, .ref h_kept, .ref h_keptPast, .int keptMany, .int isKept, .ref h_sheets], oc h_now 6 [.ref h_now_0, .ref h_now_1, .ref h_now_2, .ref h_now_3, .int (mn now), .int (ma now), .int (yr now), .int (dw now)], ai G h_now_0 6 (kd now), ai G h_now_1 18 (pl now), ai G h_now_2 6 (lf now), ai G h_now_3 6 (se now)] s.heap.size = A at hD ⊢
  have hA : ∀ q : Nat, s.heap.size ≤ q → A q := fun q h => by rw [← hAe]; exact Or.inr h
  have hS : va_S A s.heap s.heap [] := va_S.rf
  have C : Cx p s m meth c cX0_lacksTime 2 (some .int) RX0 ([.ref h, .int p1] : List Value).toArray G A := ⟨hx, hb, hr, hlocks, hml, hown, hts, hK, hA⟩
  have hl := lv_entry ([.ref h, .int p1]) (n := 2) (Nat.le_of_ble_eq_true rfl)
  rw [lg_entry_eq]
  generalize (lg_sl ([.ref h, .int p1]) ++ List.replicate (2 - (lg_sl ([.ref h, .int p1])).length) Slot.unset).toArray = ls at hl ⊢
  have hl : lv_has ls 2 [(0, .ref h), (1, .int p1)] := hl
  unfold wp_X0_lacksTime at hw
  refine lv_iload_n hx hb dX0_lacksTime_0 rfl (lv_at hl 1 rfl) ?_
  refine lv_i2l hx hb dX0_lacksTime_1 rfl ?_
  refine lv_lconst (v := (1 : Int64)) hx hb dX0_lacksTime_2 (by decide) ?_
  refine lv_ldc2 (v := (40 : Int64)) hx hb hown (hts _ q507) dX0_lacksTime_3 ?_
  have hPc := hP.sub (ws' := []) [] rfl
  have hDc := hD.sub (ws' := []) [] (by decide) rfl
  have hFc := va_free (wc := []) hD hS hA [] rfl
  refine va_calli (va_runS (As := [.long (Int32.toInt64 p1), .long (1 : Int64), .long (40 : Int64)]) (rest := []) ⟨hx, hb, hml, hown, hts⟩ (mt_X0_isIn l G  s.heap.size  (Int32.toInt64 p1) (1 : Int64) (40 : Int64) _ hw) (va_cwS 3 hts (lw_S q316 q317 q54 q318) rfl rfl rfl (by decide +kernel) ⟨Nat.le_of_ble_eq_true rfl, Nat.le_of_ble_eq_true rfl⟩) ⟨fun a U g mk q => by obtain ⟨q0, q1, qP, qK, qD⟩ := q; exact ⟨q0, q1, qP, qK.call, qD⟩, fun U hU hW => ⟨rfl, by rw [hU], by rw [hU]; exact hPc, hK.warm hW, hDc.weaken (fun _ _ _ _ => trivial)⟩⟩ rfl rfl hl.1 rfl (lv_room (Nat.le_of_ble_eq_true rfl)) dX0_lacksTime_6 ⟨Nat.le_of_ble_eq_true rfl, Nat.le_of_ble_eq_true rfl⟩) hS (fun q _ h => hFc q h) hFc (fun r_1 _ t H1 locs ht hvm hw hB hz1 hk1 hS => ?_)
  obtain ⟨hP1, hD1⟩ := hB
  rw [ht] at hP1
  obtain ⟨hP, hD⟩ := va_join (wr := [oc h 0 [.ref h_kinds, .ref h_now, .ref h_fault, .ref h_tape, .int taped, .int reads, .ref h_got, .ref h_failing, .ref h_past, .int undoMany, .ref h_aside, .ref h_best, .ref h_tried, .ref h_kept, .ref h_keptPast, .int keptMany, .int isKept, .ref h_sheets], oc h_now 6 [.ref h_now_0, .ref h_now_1, .ref h_now_2, .ref h_now_3, .int (mn now), .int (ma now), .int (yr now), .int (dw now)], ai G h_now_0 6 (kd now), ai G h_now_1 18 (pl now), ai G h_now_2 6 (lf now), ai G h_now_3 6 (se now)]) (w1 := []) hP hD [] [0, 1, 2, 3, 4, 5] rfl rfl (by decide) (by decide) hk1 hFc hP1 hD1
  clear hPc hDc hFc hP1 hD1 hz1 hk1 hvm
  generalize H1 = H at hP hS ⊢
  have hP : va_P G.1 gCl [oc h 0 [.ref h_kinds, .ref h_now, .ref h_fault, .ref h_tape, .int taped, .int reads, .ref h_got, .ref h_failing, .ref h_past, .int undoMany, .ref h_aside, .ref h_best, .ref h_tried, .ref h_kept, .ref h_keptPast, .int keptMany, .int isKept, .ref h_sheets], oc h_now 6 [.ref h_now_0, .ref h_now_1, .ref h_now_2, .ref h_now_3, .int (mn now), .int (ma now), .int (yr now), .int (dw now)], ai G h_now_0 6 (kd now), ai G h_now_1 18 (pl now), ai G h_now_2 6 (lf now), ai G h_now_3 6 (se now)] H := hP
  have hD : va_D A [oc h 0 [.ref h_kinds, .ref h_now, .ref h_fault, .ref h_tape, .int taped, .int reads, .ref h_got, .ref h_failing, .ref h_past, .int undoMany, .ref h_aside, .ref h_best, .ref h_tried, .ref h_kept, .ref h_keptPast, .int keptMany, .int isKept, .ref h_sheets], oc h_now 6 [.ref h_now_0, .ref h_now_1, .ref h_now_2, .ref h_now_3, .int (mn now), .int (ma now), .int (yr now), .int (dw now)], ai G h_now_0 6 (kd now), ai G h_now_1 18 (pl now), ai G h_now_2 6 (lf now), ai G h_now_3 6 (se now)] := hD
  refine lv_if_ne (tgt := 16) hx hb dX0_lacksTime_9 (by decide) (fun c_2 => ?_) (fun c_2 => ?_)
  · replace hw := hw.1 c_2
    refine lv_aload_n hx hb dX0_lacksTime_16 rfl (lv_at hl 0 rfl) ?_
    refine va_get (D := G.1) (ci := 0) (v := .ref h_now) (C := RX0) (T := TX0) (N := 18) hx hb hts in_X0 hown hK.1 hP 0 rfl rfl 1 (by decide) (hts _ q257) (fun _ h9 => h9) rfl dX0_lacksTime_17 ?_
    refine va_getN (D := G.1) (ci := 6) (v := .int (yr now)) (C := RX6) (T := TX6) (N := 8) hx hb hts in_X6 hown hK.1 hP 1 rfl rfl 6 (by decide) (hK.n q141 rfl) (fun _ h9 => h9) rfl dX0_lacksTime_20 ?_
    refine lv_iload_n hx hb dX0_lacksTime_23 rfl (lv_at hl 1 rfl) ?_
    refine lv_iadd hx hb dX0_lacksTime_24 ?_
    refine lv_sipush (v := (9999 : Int32)) hx hb dX0_lacksTime_25 (by decide) ?_
    refine lv_icmp_le (tgt := 36) hx hb dX0_lacksTime_28 (by decide) (fun c_3 => ?_) (fun c_3 => ?_)
    · replace hw := hw.1 c_3
      refine lv_iconst (v := (0 : Int32)) hx hb dX0_lacksTime_36 (by decide) ?_
      have hP9 := hP
      have hD9 := hD
      exact W.iret (v := (0 : Int32)) hx hb hr (fun t ht hW => ⟨⟨(0 : Int32), (), rfl, hw, by rw [ht]; exact hP9, hD9⟩, hS.F ht⟩) hS.2.2 dX0_lacksTime_37
    · replace hw := hw.2 c_3
      refine lv_bipush (v := (-3 : Int32)) hx hb dX0_lacksTime_31 (by decide) ?_
      refine lv_goto (tgt := 37) hx hb dX0_lacksTime_33 (by decide) ?_
      have hP9 := hP
      have hD9 := hD
      exact W.iret (v := (-3 : Int32)) hx hb hr (fun t ht hW => ⟨⟨(-3 : Int32), (), rfl, hw, by rw [ht]; exact hP9, hD9⟩, hS.F ht⟩) hS.2.2 dX0_lacksTime_37
  · replace hw := hw.2 c_2
    refine lv_iconst (v := (-1 : Int32)) hx hb dX0_lacksTime_12 (by decide) ?_
    refine lv_goto (tgt := 37) hx hb dX0_lacksTime_13 (by decide) ?_
    have hP9 := hP
    have hD9 := hD
    exact W.iret (v := (-1 : Int32)) hx hb hr (fun t ht hW => ⟨⟨(-1 : Int32), (), rfl, hw, by rw [ht]; exact hP9, hD9⟩, hS.F ht⟩) hS.2.2 dX0_lacksTime_37
