set_option maxRecDepth 100000
/-! BattleBenchModel.in(III)Z -/
def wp_X9_in (p0 : Int32) (p1 : Int32) (p2 : Int32) (Q : Int32 → Prop) : Prop :=
  (((p0 < p1) → Q (0 : Int32)) ∧ (¬ (p0 < p1) → (((p2 < p0) → Q (0 : Int32)) ∧ (¬ (p2 < p0) → Q (1 : Int32)))))
set_option maxHeartbeats 4000000 in
theorem mt_X9_in (l : Launch) (G : GT)  (sz : Nat) (p0 : Int32) (p1 : Int32) (p2 : Int32) (Q : Int32 → Prop) (hw : wp_X9_in p0 p1 p2 Q) : Met l yX9_in (ws_ yX9_in cX9_in 3 (some .boolean)) ({ frames := 0, cells := 0, slots := 0, locals := 0 } : Room) (va_Pc [.int p0, .int p1, .int p2] (fun U => U.heap.size = sz ∧ va_P G.1 gCl [] U.heap ∧ gK G U ∧ va_D (fun _ => True) [])) ((fun A => (va_Qi (fun (r : Int32) (u : Unit) => Q r ) (fun u t => va_P G.1 gCl [] t.heap ∧ va_D A []) A)) (va_A [] sz)) 0 0 (va_A [] sz) := by
  refine Met.ofW (cc := cX9_in) (maxL := 3) (ret := (some .boolean)) (by decide) rfl ?_
  intro p e s m args below meth c s₁ B hml hv
  obtain ⟨rfl, hsz, hP, hK, hD0⟩ := hv
  have hx := B.exec
  have hb := B.bytes
  have hr := B.returns
  have hts := atoms_spec (ws := (ws_ yX9_in cX9_in 3 (some .boolean))) B.pre
  have hts : ∀ w ∈ lw_all, w.before _ s = true := fun w h => hts w (List.mem_cons_of_mem _ h)
  have hown : s.vm.findClass RX9 = some m.cls := findClass_of_methodNamed B.named
  have hlocks := B.notSynchronized
  subst hsz
  have hD := hD0.self (sz := s.heap.size)
  generalize hAe : va_A [] s.heap.size = A at hD ⊢
  have hA : ∀ q : Nat, s.heap.size ≤ q → A q := fun q h => by rw [← hAe]; exact Or.inr h
  have hS : va_S A s.heap s.heap [] := va_S.rf
  have C : Cx p s m meth c cX9_in 3 (some .boolean) RX9 ([.int p0, .int p1, .int p2] : List Value).toArray G A := ⟨hx, hb, hr, hlocks, hml, hown, hts, hK, hA⟩
  have hl := lv_entry ([.int p0, .int p1, .int p2]) (n := 3) (Nat.le_of_ble_eq_true rfl)
  rw [lg_entry_eq]
  generalize (lg_sl ([.int p0, .int p1, .int p2]) ++ List.replicate (3 - (lg_sl ([.int p0, .int p1, .int p2])).length) Slot.unset).toArray = ls at hl ⊢
  have hl : lv_has ls 3 [(0, .int p0), (1, .int p1), (2, .int p2)] := hl
  unfold wp_X9_in at hw
  refine lv_iload_n hx hb dX9_in_0 rfl (lv_at hl 0 rfl) ?_
  refine lv_iload_n hx hb dX9_in_1 rfl (lv_at hl 1 rfl) ?_
  refine lv_icmp_lt (tgt := 14) hx hb dX9_in_2 (by decide) (fun c_1 => ?_) (fun c_1 => ?_)
  · replace hw := hw.1 c_1
    refine lv_iconst (v := (0 : Int32)) hx hb dX9_in_14 (by decide) ?_
    have hP9 := hP
    have hD9 := hD
    exact W.zret (v := (0 : Int32)) hx hb hr rfl (fun t ht hW => ⟨⟨(0 : Int32), (), rfl, hw, by rw [ht]; exact hP9, hD9⟩, hS.F ht⟩) hS.2.2 dX9_in_15
  · replace hw := hw.2 c_1
    refine lv_iload_n hx hb dX9_in_5 rfl (lv_at hl 0 rfl) ?_
    refine lv_iload_n hx hb dX9_in_6 rfl (lv_at hl 2 rfl) ?_
    refine lv_icmp_gt (tgt := 14) hx hb dX9_in_7 (by decide) (fun c_2 => ?_) (fun c_2 => ?_)
    · replace hw := hw.1 c_2
      refine lv_iconst (v := (0 : Int32)) hx hb dX9_in_14 (by decide) ?_
      have hP9 := hP
      have hD9 := hD
      exact W.zret (v := (0 : Int32)) hx hb hr rfl (fun t ht hW => ⟨⟨(0 : Int32), (), rfl, hw, by rw [ht]; exact hP9, hD9⟩, hS.F ht⟩) hS.2.2 dX9_in_15
    · replace hw := hw.2 c_2
      refine lv_iconst (v := (1 : Int32)) hx hb dX9_in_10 (by decide) ?_
      refine lv_goto (tgt := 15) hx hb dX9_in_11 (by decide) ?_
      have hP9 := hP
      have hD9 := hD
      exact W.zret (v := (1 : Int32)) hx hb hr rfl (fun t ht hW => ⟨⟨(1 : Int32), (), rfl, hw, by rw [ht]; exact hP9, hD9⟩, hS.F ht⟩) hS.2.2 dX9_in_15
/-! BattleBenchModel.isTaken(II)Z -/
def wp_X9_isTaken_5 (sv : Nat → Int32) (p1 : Int32) (p2 : Int32) (Q : Int32 → Prop)  : Nat → Int32 → Int32 → Prop
  | 0, _, _ => False
  | n + 1, x3, x4 =>
    ((((sv 0) ≤ x4) → (z01 x3 ∧ Q x3)) ∧ (¬ ((sv 0) ≤ x4) → ((¬ (x3 = 0) → wp_X9_isTaken_5 sv p1 p2 Q  n (1 : Int32) (x4 + (1 : Int32))) ∧ ((x3 = 0) → (vp_in (((22 : Int32) + ((3 : Int32) * x4)) + p1) 161 ∧ ((¬ ((sv ((((22 : Int32) + ((3 : Int32) * x4)) + p1)).toNatClampNeg) = p2) → wp_X9_isTaken_5 sv p1 p2 Q  n (0 : Int32) (x4 + (1 : Int32))) ∧ (((sv ((((22 : Int32) + ((3 : Int32) * x4)) + p1)).toNatClampNeg) = p2) → wp_X9_isTaken_5 sv p1 p2 Q  n (1 : Int32) (x4 + (1 : Int32)))))))))
set_option maxHeartbeats 4000000 in
theorem wk_X9_isTaken_5 {p : Program} {l : Launch} {e : Env} {s : State} {m : MethodId} {below : List Frame} {meth : Method} {c : Code} {args : Array Value} {G : GT} {A : Nat → Prop} (h h_s h_images h_tape h_draft h_items h_moved h_sizes h_lanes h_less h_aside h_order : Nat) (kept : Int32) (typed : Int32) (atv : Int32) (sv : Nat → Int32) (p1 : Int32) (p2 : Int32) (Q : Int32 → Prop)  (C : Cx p s m meth c cX9_isTaken 5 (some .boolean) RX9 args G A)  :
    ∀ (n : Nat), ∀  (x3 : Int32) (x4 : Int32) (H : Heap) (locs : List Loc), va_P G.1 gCl [oc h 9 [.ref h_s, .ref h_images, .int kept, .ref h_tape, .int typed, .ref h_draft, .int atv, .ref h_items, .ref h_moved, .ref h_sizes, .ref h_lanes, .ref h_less, .ref h_aside, .ref h_order], ai G h_s 161 sv] H → va_D A [oc h 9 [.ref h_s, .ref h_images, .int kept, .ref h_tape, .int typed, .ref h_draft, .int atv, .ref h_items, .ref h_moved, .ref h_sizes, .ref h_lanes, .ref h_less, .ref h_aside, .ref h_order], ai G h_s 161 sv] → va_S A s.heap H locs → ∀ (ls : Array Slot), lv_has ls 5 [(0, .ref h), (1, .int p1), (2, .int p2), (3, .int x3), (4, .int x4)] → wp_X9_isTaken_5 sv p1 p2 Q  n x3 x4 → W p l e ({ frames := 0, cells := 0, slots := 0, locals := 0 } : Room) s m args below meth c H locs 0 0 (MQ below (va_Qi (fun (r : Int32) (u : Unit) => Q r ) (fun u t => va_P G.1 gCl [oc h 9 [.ref h_s, .ref h_images, .int kept, .ref h_tape, .int typed, .ref h_draft, .int atv, .ref h_items, .ref h_moved, .ref h_sizes, .ref h_lanes, .ref h_less, .ref h_aside, .ref h_order], ai G h_s 161 sv] t.heap ∧ va_D A [oc h 9 [.ref h_s, .ref h_images, .int kept, .ref h_tape, .int typed, .ref h_draft, .int atv, .ref h_items, .ref h_moved, .ref h_sizes, .ref h_lanes, .ref h_less, .ref h_aside, .ref h_order], ai G h_s 161 sv]) A) args s 0 0 A) (F0 m 5 ls []) := by
  have C9 := C
  obtain ⟨hx, hb, hr, hlocks, hml, hown, hts, hK, hA⟩ := C9
  intro n
  induction n with
  | zero => intro x3 x4 H locs hP hD hS ls hl hw; exact False.elim hw
  | succ n ih =>
    intro x3 x4 H locs hP hD hS ls hl hw
    unfold wp_X9_isTaken_5 at hw
    refine lv_iload hx hb dX9_isTaken_5 (lv_at hl 4 rfl) ?_
    refine lv_aload_n hx hb dX9_isTaken_7 rfl (lv_at hl 0 rfl) ?_
    refine va_get (D := G.1) (ci := 9) (v := .ref h_s) (C := RX9) (T := TX9) (N := 14) hx hb hts in_X9 hown hK.1 hP 0 rfl rfl 0 (by decide) (hts _ q817) (fun _ h9 => h9) rfl dX9_isTaken_8 ?_
    refine lv_iconst (v := (0 : Int32)) hx hb dX9_isTaken_11 (by decide) ?_
    refine z_iald hx hb hK.1 hP 1 0 rfl rfl (vin_l (by decide +kernel)) dX9_isTaken_12 (k := 0) rfl ?_
    refine lv_icmp_ge (tgt := 50) hx hb dX9_isTaken_13 (by decide) (fun c_1 => ?_) (fun c_1 => ?_)
    · replace hw := hw.1 c_1
      refine lv_iload_n hx hb dX9_isTaken_50 rfl (lv_at hl 3 rfl) ?_
      obtain ⟨hz, hw⟩ := hw
      have hP9 := hP
      have hD9 := hD
      exact W.zret (v := x3) hx hb hr (z01.nar hz) (fun t ht hW => ⟨⟨x3, (), rfl, hw, by rw [ht]; exact hP9, hD9⟩, hS.F ht⟩) hS.2.2 dX9_isTaken_51
    · replace hw := hw.2 c_1
      refine lv_iload_n hx hb dX9_isTaken_16 rfl (lv_at hl 3 rfl) ?_
      refine lv_if_ne (tgt := 38) hx hb dX9_isTaken_17 (by decide) (fun c_2 => ?_) (fun c_2 => ?_)
      · replace hw := hw.1 c_2
        refine lv_iconst (v := (1 : Int32)) hx hb dX9_isTaken_38 (by decide) ?_
        refine lv_goto (tgt := 43) hx hb dX9_isTaken_39 (by decide) ?_
        refine lv_istore_n (lv' := [(3, .int (1 : Int32)), (0, .ref h), (1, .int p1), (2, .int p2), (4, .int x4)]) hx hb dX9_isTaken_43 rfl hl (by decide) rfl (fun ls hl => ?_)
        refine lv_iinc (v := (x4 + (1 : Int32))) (lv' := [(4, .int (x4 + (1 : Int32))), (3, .int (1 : Int32)), (0, .ref h), (1, .int p1), (2, .int p2)]) hx hb dX9_isTaken_44 hl (k := 4) rfl rfl (by decide) rfl (fun ls hl => ?_)
        refine lv_goto (tgt := 5) hx hb dX9_isTaken_47 (by decide) ?_
        exact ih (1 : Int32) (x4 + (1 : Int32)) H locs hP hD hS ls (lv_sub hl [2, 3, 4, 1, 0] rfl) hw
      · replace hw := hw.2 c_2
        refine lv_aload_n hx hb dX9_isTaken_20 rfl (lv_at hl 0 rfl) ?_
        refine va_get (D := G.1) (ci := 9) (v := .ref h_s) (C := RX9) (T := TX9) (N := 14) hx hb hts in_X9 hown hK.1 hP 0 rfl rfl 0 (by decide) (hts _ q817) (fun _ h9 => h9) rfl dX9_isTaken_21 ?_
        refine lv_bipush (v := (22 : Int32)) hx hb dX9_isTaken_24 (by decide) ?_
        refine lv_iconst (v := (3 : Int32)) hx hb dX9_isTaken_26 (by decide) ?_
        refine lv_iload hx hb dX9_isTaken_27 (lv_at hl 4 rfl) ?_
        refine lv_imul hx hb dX9_isTaken_29 ?_
        refine lv_iadd hx hb dX9_isTaken_30 ?_
        refine lv_iload_n hx hb dX9_isTaken_31 rfl (lv_at hl 1 rfl) ?_
        refine lv_iadd hx hb dX9_isTaken_32 ?_
        obtain ⟨i_3, hw⟩ := hw
        refine z_iald hx hb hK.1 hP 1 0 rfl rfl i_3 dX9_isTaken_33 (k := ((((22 : Int32) + ((3 : Int32) * x4)) + p1)).toNatClampNeg) rfl ?_
        refine lv_iload_n hx hb dX9_isTaken_34 rfl (lv_at hl 2 rfl) ?_
        refine lv_icmp_ne (tgt := 42) hx hb dX9_isTaken_35 (by decide) (fun c_4 => ?_) (fun c_4 => ?_)
        · replace hw := hw.1 c_4
          refine lv_iconst (v := (0 : Int32)) hx hb dX9_isTaken_42 (by decide) ?_
          refine lv_istore_n (lv' := [(3, .int (0 : Int32)), (0, .ref h), (1, .int p1), (2, .int p2), (4, .int x4)]) hx hb dX9_isTaken_43 rfl hl (by decide) rfl (fun ls hl => ?_)
          refine lv_iinc (v := (x4 + (1 : Int32))) (lv' := [(4, .int (x4 + (1 : Int32))), (3, .int (0 : Int32)), (0, .ref h), (1, .int p1), (2, .int p2)]) hx hb dX9_isTaken_44 hl (k := 4) rfl rfl (by decide) rfl (fun ls hl => ?_)
          refine lv_goto (tgt := 5) hx hb dX9_isTaken_47 (by decide) ?_
          exact ih (0 : Int32) (x4 + (1 : Int32)) H locs hP hD hS ls (lv_sub hl [2, 3, 4, 1, 0] rfl) hw
        · replace hw := hw.2 c_4
          refine lv_iconst (v := (1 : Int32)) hx hb dX9_isTaken_38 (by decide) ?_
          refine lv_goto (tgt := 43) hx hb dX9_isTaken_39 (by decide) ?_
          refine lv_istore_n (lv' := [(3, .int (1 : Int32)), (0, .ref h), (1, .int p1), (2, .int p2), (4, .int x4)]) hx hb dX9_isTaken_43 rfl hl (by decide) rfl (fun ls hl => ?_)
          refine lv_iinc (v := (x4 + (1 : Int32))) (lv' := [(4, .int (x4 + (1 : Int32))), (3, .int (1 : Int32)), (0, .ref h), (1, .int p1), (2, .int p2)]) hx hb dX9_isTaken_44 hl (k := 4) rfl rfl (by decide) rfl (fun ls hl => ?_)
          refine lv_goto (tgt := 5) hx hb dX9_isTaken_47 (by decide) ?_
          exact ih (1 : Int32) (x4 + (1 : Int32)) H locs hP hD hS ls (lv_sub hl [2, 3, 4, 1, 0] rfl) hw
def wp_X9_isTaken (sv : Nat → Int32) (p1 : Int32) (p2 : Int32) (Q : Int32 → Prop) : Prop :=
  (∃ j_ : Nat, wp_X9_isTaken_5 sv p1 p2 Q  j_ (0 : Int32) (0 : Int32))
set_option maxHeartbeats 4000000 in
theorem mt_X9_isTaken (l : Launch) (G : GT) (h h_s h_images h_tape h_draft h_items h_moved h_sizes h_lanes h_less h_aside h_order : Nat) (sz : Nat) (kept : Int32) (typed : Int32) (atv : Int32) (sv : Nat → Int32) (p1 : Int32) (p2 : Int32) (Q : Int32 → Prop) (hw : wp_X9_isTaken sv p1 p2 Q) : Met l yX9_isTaken (ws_ yX9_isTaken cX9_isTaken 5 (some .boolean)) ({ frames := 0, cells := 0, slots := 0, locals := 0 } : Room) (va_Pc [.ref h, .int p1, .int p2] (fun U => U.heap.size = sz ∧ va_P G.1 gCl [oc h 9 [.ref h_s, .ref h_images, .int kept, .ref h_tape, .int typed, .ref h_draft, .int atv, .ref h_items, .ref h_moved, .ref h_sizes, .ref h_lanes, .ref h_less, .ref h_aside, .ref h_order], ai G h_s 161 sv] U.heap ∧ gK G U ∧ va_D (fun _ => True) [oc h 9 [.ref h_s, .ref h_images, .int kept, .ref h_tape, .int typed, .ref h_draft, .int atv, .ref h_items, .ref h_moved, .ref h_sizes, .ref h_lanes, .ref h_less, .ref h_aside, .ref h_order], ai G h_s 161 sv])) ((fun A => (va_Qi (fun (r : Int32) (u : Unit) => Q r ) (fun u t => va_P G.1 gCl [oc h 9 [.ref h_s, .ref h_images, .int kept, .ref h_tape, .int typed, .ref h_draft, .int atv, .ref h_items, .ref h_moved, .ref h_sizes, .ref h_lanes, .ref h_less, .ref h_aside, .ref h_order], ai G h_s 161 sv] t.heap ∧ va_D A [oc h 9 [.ref h_s, .ref h_images, .int kept, .ref h_tape, .int typed, .ref h_draft, .int atv, .ref h_items, .ref h_moved, .ref h_sizes, .ref h_lanes, .ref h_less, .ref h_aside, .ref h_order], ai G h_s 161 sv]) A)) (va_A [oc h 9 [.ref h_s, .ref h_images, .int kept, .ref h_tape, .int typed, .ref h_draft, .int atv, .ref h_items, .ref h_moved, .ref h_sizes, .ref h_lanes, .ref h_less, .ref h_aside, .ref h_order], ai G h_s 161 sv] sz)) 0 0 (va_A [oc h 9 [.ref h_s, .ref h_images, .int kept, .ref h_tape, .int typed, .ref h_draft, .int atv, .ref h_items, .ref h_moved, .ref h_sizes, .ref h_lanes, .ref h_less, .ref h_aside, .ref h_order], ai G h_s 161 sv] sz) := by
  refine Met.ofW (cc := cX9_isTaken) (maxL := 5) (ret := (some .boolean)) (by decide) rfl ?_
  intro p e s m args below meth c s₁ B hml hv
  obtain ⟨rfl, hsz, hP, hK, hD0⟩ := hv
  have hx := B.exec
  have hb := B.bytes
  have hr := B.returns
  have hts := atoms_spec (ws := (ws_ yX9_isTaken cX9_isTaken 5 (some .boolean))) B.pre
  have hts : ∀ w ∈ lw_all, w.before _ s = true := fun w h => hts w (List.mem_cons_of_mem _ h)
  have hown : s.vm.findClass RX9 = some m.cls := findClass_of_methodNamed B.named
  have hlocks := B.notSynchronized
  subst hsz
  have hD := hD0.self (sz := s.heap.size)
  generalize hAe : va_A [oc h 9 [.ref h_s, .ref h_images, .int kept, .ref h_tape, .int typed, .ref h_draft, .int atv, .ref h_items, .ref h_moved, .ref h_sizes, .ref h_lanes, .ref h_less, .ref h_aside, .ref h_order], ai G h_s 161 sv] s.heap.size = A at hD ⊢
  have hA : ∀ q : Nat, s.heap.size ≤ q → A q := fun q h => by rw [← hAe]; exact Or.inr h
  have hS : va_S A s.heap s.heap [] := va_S.rf
  have C : Cx p s m meth c cX9_isTaken 5 (some .boolean) RX9 ([.ref h, .int p1, .int p2] : List Value).toArray G A := ⟨hx, hb, hr, hlocks, hml, hown, hts, hK, hA⟩
  have hl := lv_entry ([.ref h, .int p1, .int p2]) (n := 5) (Nat.le_of_ble_eq_true rfl)
  rw [lg_entry_eq]
  generalize (lg_sl ([.ref h, .int p1, .int p2]) ++ List.replicate (5 - (lg_sl ([.ref h, .int p1, .int p2])).length) Slot.unset).toArray = ls at hl ⊢
  have hl : lv_has ls 5 [(0, .ref h), (1, .int p1), (2, .int p2)] := hl
  unfold wp_X9_isTaken at hw
  refine lv_iconst (v := (0 : Int32)) hx hb dX9_isTaken_0 (by decide) ?_
  refine lv_istore_n (lv' := [(3, .int (0 : Int32)), (0, .ref h), (1, .int p1), (2, .int p2)]) hx hb dX9_isTaken_1 rfl hl (by decide) rfl (fun ls hl => ?_)
  refine lv_iconst (v := (0 : Int32)) hx hb dX9_isTaken_2 (by decide) ?_
  refine lv_istore (lv' := [(4, .int (0 : Int32)), (3, .int (0 : Int32)), (0, .ref h), (1, .int p1), (2, .int p2)]) hx hb dX9_isTaken_3 hl (by decide) rfl (fun ls hl => ?_)
  obtain ⟨j_, hw⟩ := hw
  exact wk_X9_isTaken_5 h h_s h_images h_tape h_draft h_items h_moved h_sizes h_lanes h_less h_aside h_order kept typed atv sv p1 p2  Q  C  j_ (0 : Int32) (0 : Int32) s.heap [] hP hD hS ls (lv_sub hl [2, 3, 4, 1, 0] rfl) hw
/-! BattleBenchModel.man(II)I -/
def wp_X9_man_89 (p1 : Int32) (p2 : Int32) (Q : Int32 → ((Nat → Int32)) → Prop)  : Nat → (Nat → Int32) → Int32 → Int32 → Prop
  | 0, _, _, _ => False
  | n + 1, sv, x3, x4 =>
    ((((3 : Int32) ≤ x4) → (vp_in ((10 : Int32) + (sv 1)) 161 ∧ ∀ f_3 : Nat → Int32, f_3 = upd sv (((10 : Int32) + (sv 1))).toNatClampNeg x3 → (∀ v_4 : Int32, v_4 = ((f_3 1) + (1 : Int32)) → (∀ f_5 : Nat → Int32, f_5 = upd f_3 1 v_4 → (∀ v_6 : Int32, v_6 = ((f_5 0) + (1 : Int32)) → (∀ f_7 : Nat → Int32, f_7 = upd f_5 0 v_6 → (∀ f_8 : Nat → Int32, f_8 = upd f_7 40 (0 : Int32) → Q x3 f_8))))))) ∧ (¬ ((3 : Int32) ≤ x4) → (vp_in (((22 : Int32) + ((3 : Int32) * x3)) + x4) 161 ∧ ∀ f_10 : Nat → Int32, f_10 = upd sv ((((22 : Int32) + ((3 : Int32) * x3)) + x4)).toNatClampNeg x3 → wp_X9_man_89 p1 p2 Q  n f_10 x3 (x4 + (1 : Int32)))))
set_option maxHeartbeats 4000000 in
theorem wk_X9_man_89 {p : Program} {l : Launch} {e : Env} {s : State} {m : MethodId} {below : List Frame} {meth : Method} {c : Code} {args : Array Value} {G : GT} {A : Nat → Prop} (h h_s h_images h_tape h_draft h_items h_moved h_sizes h_lanes h_less h_aside h_order : Nat) (kept : Int32) (typed : Int32) (atv : Int32) (p1 : Int32) (p2 : Int32) (Q : Int32 → ((Nat → Int32)) → Prop)  (C : Cx p s m meth c cX9_man 5 (some .int) RX9 args G A)  :
    ∀ (n : Nat), ∀  (sv : Nat → Int32) (x3 : Int32) (x4 : Int32) (H : Heap) (locs : List Loc), va_P G.1 gCl [oc h 9 [.ref h_s, .ref h_images, .int kept, .ref h_tape, .int typed, .ref h_draft, .int atv, .ref h_items, .ref h_moved, .ref h_sizes, .ref h_lanes, .ref h_less, .ref h_aside, .ref h_order], ai G h_s 161 sv] H → va_D A [oc h 9 [.ref h_s, .ref h_images, .int kept, .ref h_tape, .int typed, .ref h_draft, .int atv, .ref h_items, .ref h_moved, .ref h_sizes, .ref h_lanes, .ref h_less, .ref h_aside, .ref h_order], ai G h_s 161 sv] → va_S A s.heap H locs → ∀ (ls : Array Slot), lv_has ls 5 [(0, .ref h), (3, .int x3), (4, .int x4)] → wp_X9_man_89 p1 p2 Q  n sv x3 x4 → W p l e ({ frames := 1, cells := 0, slots := 0, locals := 24 } : Room) s m args below meth c H locs 0 0 (MQ below (va_Qi (fun (r : Int32) (u : (Nat → Int32)) => Q r u) (fun u t => va_P G.1 gCl [oc h 9 [.ref h_s, .ref h_images, .int kept, .ref h_tape, .int typed, .ref h_draft, .int atv, .ref h_items, .ref h_moved, .ref h_sizes, .ref h_lanes, .ref h_less, .ref h_aside, .ref h_order], ai G h_s 161 u] t.heap ∧ va_D A [oc h 9 [.ref h_s, .ref h_images, .int kept, .ref h_tape, .int typed, .ref h_draft, .int atv, .ref h_items, .ref h_moved, .ref h_sizes, .ref h_lanes, .ref h_less, .ref h_aside, .ref h_order], ai G h_s 161 u]) A) args s 0 0 A) (F0 m 89 ls []) := by
  have C9 := C
  obtain ⟨hx, hb, hr, hlocks, hml, hown, hts, hK, hA⟩ := C9
  intro n
  induction n with
  | zero => intro sv x3 x4 H locs hP hD hS ls hl hw; exact False.elim hw
  | succ n ih =>
    intro sv x3 x4 H locs hP hD hS ls hl hw
    unfold wp_X9_man_89 at hw
    refine lv_iload hx hb dX9_man_89 (lv_at hl 2 rfl) ?_
    refine lv_iconst (v := (3 : Int32)) hx hb dX9_man_91 (by decide) ?_
    refine lv_icmp_ge (tgt := 116) hx hb dX9_man_92 (by decide) (fun c_1 => ?_) (fun c_1 => ?_)
    · replace hw := hw.1 c_1
      refine lv_aload_n hx hb dX9_man_116 rfl (lv_at hl 0 rfl) ?_
      refine va_get (D := G.1) (ci := 9) (v := .ref h_s) (C := RX9) (T := TX9) (N := 14) hx hb hts in_X9 hown hK.1 hP 0 rfl rfl 0 (by decide) (hts _ q817) (fun _ h9 => h9) rfl dX9_man_117 ?_
      refine lv_bipush (v := (10 : Int32)) hx hb dX9_man_120 (by decide) ?_
      refine lv_aload_n hx hb dX9_man_122 rfl (lv_at hl 0 rfl) ?_
      refine va_get (D := G.1) (ci := 9) (v := .ref h_s) (C := RX9) (T := TX9) (N := 14) hx hb hts in_X9 hown hK.1 hP 0 rfl rfl 0 (by decide) (hts _ q817) (fun _ h9 => h9) rfl dX9_man_123 ?_
      refine lv_iconst (v := (1 : Int32)) hx hb dX9_man_126 (by decide) ?_
      refine z_iald hx hb hK.1 hP 1 0 rfl rfl (vin_l (by decide +kernel)) dX9_man_127 (k := 1) rfl ?_
      refine lv_iadd hx hb dX9_man_128 ?_
      refine lv_iload_n hx hb dX9_man_129 rfl (lv_at hl 1 rfl) ?_
      obtain ⟨i_2, hw⟩ := hw
      refine z_iast hx hb hK.1 hP hD hS 1 0 rfl rfl i_2 dX9_man_130 (k := (((10 : Int32) + (sv 1))).toNatClampNeg) rfl (fun f_3 ef_3 H locs hP hD hS => ?_)
      replace hw := hw f_3 ef_3
      have hP : va_P G.1 gCl [oc h 9 [.ref h_s, .ref h_images, .int kept, .ref h_tape, .int typed, .ref h_draft, .int atv, .ref h_items, .ref h_moved, .ref h_sizes, .ref h_lanes, .ref h_less, .ref h_aside, .ref h_order], ai G h_s 161 f_3] H := hP
      have hD : va_D A [oc h 9 [.ref h_s, .ref h_images, .int kept, .ref h_tape, .int typed, .ref h_draft, .int atv, .ref h_items, .ref h_moved, .ref h_sizes, .ref h_lanes, .ref h_less, .ref h_aside, .ref h_order], ai G h_s 161 f_3] := hD
      refine lv_aload_n hx hb dX9_man_131 rfl (lv_at hl 0 rfl) ?_
      refine va_get (D := G.1) (ci := 9) (v := .ref h_s) (C := RX9) (T := TX9) (N := 14) hx hb hts in_X9 hown hK.1 hP 0 rfl rfl 0 (by decide) (hts _ q817) (fun _ h9 => h9) rfl dX9_man_132 ?_
      refine lv_iconst (v := (1 : Int32)) hx hb dX9_man_135 (by decide) ?_
      refine lv_dup2_11 hx hb dX9_man_136 rfl rfl ?_
      refine z_iald hx hb hK.1 hP 1 0 rfl rfl (vin_l (by decide +kernel)) dX9_man_137 (k := 1) rfl ?_
      refine lv_iconst (v := (1 : Int32)) hx hb dX9_man_138 (by decide) ?_
      refine lv_iadd hx hb dX9_man_139 ?_
      refine lv_topi (fun v_4 ev_4 => ?_)
      replace hw := hw v_4 ev_4
      refine z_iast hx hb hK.1 hP hD hS 1 0 rfl rfl (vin_l (by decide +kernel)) dX9_man_140 (k := 1) rfl (fun f_5 ef_5 H locs hP hD hS => ?_)
      replace hw := hw f_5 ef_5
      have hP : va_P G.1 gCl [oc h 9 [.ref h_s, .ref h_images, .int kept, .ref h_tape, .int typed, .ref h_draft, .int atv, .ref h_items, .ref h_moved, .ref h_sizes, .ref h_lanes, .ref h_less, .ref h_aside, .ref h_order], ai G h_s 161 f_5] H := hP
      have hD : va_D A [oc h 9 [.ref h_s, .ref h_images, .int kept, .ref h_tape, .int typed, .ref h_draft, .int atv, .ref h_items, .ref h_moved, .ref h_sizes, .ref h_lanes, .ref h_less, .ref h_aside, .ref h_order], ai G h_s 161 f_5] := hD
      refine lv_aload_n hx hb dX9_man_141 rfl (lv_at hl 0 rfl) ?_
      refine va_get (D := G.1) (ci := 9) (v := .ref h_s) (C := RX9) (T := TX9) (N := 14) hx hb hts in_X9 hown hK.1 hP 0 rfl rfl 0 (by decide) (hts _ q817) (fun _ h9 => h9) rfl dX9_man_142 ?_
      refine lv_iconst (v := (0 : Int32)) hx hb dX9_man_145 (by decide) ?_
      refine lv_dup2_11 hx hb dX9_man_146 rfl rfl ?_
      refine z_iald hx hb hK.1 hP 1 0 rfl rfl (vin_l (by decide +kernel)) dX9_man_147 (k := 0) rfl ?_
      refine lv_iconst (v := (1 : Int32)) hx hb dX9_man_148 (by decide) ?_
      refine lv_iadd hx hb dX9_man_149 ?_
      refine lv_topi (fun v_6 ev_6 => ?_)
      replace hw := hw v_6 ev_6
      refine z_iast hx hb hK.1 hP hD hS 1 0 rfl rfl (vin_l (by decide +kernel)) dX9_man_150 (k := 0) rfl (fun f_7 ef_7 H locs hP hD hS => ?_)
      replace hw := hw f_7 ef_7
      have hP : va_P G.1 gCl [oc h 9 [.ref h_s, .ref h_images, .int kept, .ref h_tape, .int typed, .ref h_draft, .int atv, .ref h_items, .ref h_moved, .ref h_sizes, .ref h_lanes, .ref h_less, .ref h_aside, .ref h_order], ai G h_s 161 f_7] H := hP
      have hD : va_D A [oc h 9 [.ref h_s, .ref h_images, .int kept, .ref h_tape, .int typed, .ref h_draft, .int atv, .ref h_items, .ref h_moved, .ref h_sizes, .ref h_lanes, .ref h_less, .ref h_aside, .ref h_order], ai G h_s 161 f_7] := hD
      refine lv_aload_n hx hb dX9_man_151 rfl (lv_at hl 0 rfl) ?_
      refine va_get (D := G.1) (ci := 9) (v := .ref h_s) (C := RX9) (T := TX9) (N := 14) hx hb hts in_X9 hown hK.1 hP 0 rfl rfl 0 (by decide) (hts _ q817) (fun _ h9 => h9) rfl dX9_man_152 ?_
      refine lv_bipush (v := (40 : Int32)) hx hb dX9_man_155 (by decide) ?_
      refine lv_iconst (v := (0 : Int32)) hx hb dX9_man_157 (by decide) ?_
      refine z_iast hx hb hK.1 hP hD hS 1 0 rfl rfl (vin_l (by decide +kernel)) dX9_man_158 (k := 40) rfl (fun f_8 ef_8 H locs hP hD hS => ?_)
      replace hw := hw f_8 ef_8
      have hP : va_P G.1 gCl [oc h 9 [.ref h_s, .ref h_images, .int kept, .ref h_tape, .int typed, .ref h_draft, .int atv, .ref h_items, .ref h_moved, .ref h_sizes, .ref h_lanes, .ref h_less, .ref h_aside, .ref h_order], ai G h_s 161 f_8] H := hP
      have hD : va_D A [oc h 9 [.ref h_s, .ref h_images, .int kept, .ref h_tape, .int typed, .ref h_draft, .int atv, .ref h_items, .ref h_moved, .ref h_sizes, .ref h_lanes, .ref h_less, .ref h_aside, .ref h_order], ai G h_s 161 f_8] := hD
      refine lv_iload_n hx hb dX9_man_159 rfl (lv_at hl 1 rfl) ?_
      have hP9 := hP
      have hD9 := hD
      exact W.iret (v := x3) hx hb hr (fun t ht hW => ⟨⟨x3, f_8, rfl, hw, by rw [ht]; exact hP9, hD9⟩, hS.F ht⟩) hS.2.2 dX9_man_160
    · replace hw := hw.2 c_1
      refine lv_aload_n hx hb dX9_man_95 rfl (lv_at hl 0 rfl) ?_
      refine va_get (D := G.1) (ci := 9) (v := .ref h_s) (C := RX9) (T := TX9) (N := 14) hx hb hts in_X9 hown hK.1 hP 0 rfl rfl 0 (by decide) (hts _ q817) (fun _ h9 => h9) rfl dX9_man_96 ?_
      refine lv_bipush (v := (22 : Int32)) hx hb dX9_man_99 (by decide) ?_
      refine lv_iconst (v := (3 : Int32)) hx hb dX9_man_101 (by decide) ?_
      refine lv_iload_n hx hb dX9_man_102 rfl (lv_at hl 1 rfl) ?_
      refine lv_imul hx hb dX9_man_103 ?_
      refine lv_iadd hx hb dX9_man_104 ?_
      refine lv_iload hx hb dX9_man_105 (lv_at hl 2 rfl) ?_
      refine lv_iadd hx hb dX9_man_107 ?_
      refine lv_iload_n hx hb dX9_man_108 rfl (lv_at hl 1 rfl) ?_
      obtain ⟨i_9, hw⟩ := hw
      refine z_iast hx hb hK.1 hP hD hS 1 0 rfl rfl i_9 dX9_man_109 (k := ((((22 : Int32) + ((3 : Int32) * x3)) + x4)).toNatClampNeg) rfl (fun f_10 ef_10 H locs hP hD hS => ?_)
      replace hw := hw f_10 ef_10
      have hP : va_P G.1 gCl [oc h 9 [.ref h_s, .ref h_images, .int kept, .ref h_tape, .int typed, .ref h_draft, .int atv, .ref h_items, .ref h_moved, .ref h_sizes, .ref h_lanes, .ref h_less, .ref h_aside, .ref h_order], ai G h_s 161 f_10] H := hP
      have hD : va_D A [oc h 9 [.ref h_s, .ref h_images, .int kept, .ref h_tape, .int typed, .ref h_draft, .int atv, .ref h_items, .ref h_moved, .ref h_sizes, .ref h_lanes, .ref h_less, .ref h_aside, .ref h_order], ai G h_s 161 f_10] := hD
      refine lv_iinc (v := (x4 + (1 : Int32))) (lv' := [(4, .int (x4 + (1 : Int32))), (0, .ref h), (3, .int x3)]) hx hb dX9_man_110 hl (k := 2) rfl rfl (by decide) rfl (fun ls hl => ?_)
      refine lv_goto (tgt := 89) hx hb dX9_man_113 (by decide) ?_
      exact ih f_10 x3 (x4 + (1 : Int32)) H locs hP hD hS ls (lv_sub hl [1, 2, 0] rfl) hw
def wp_X9_man (sv : Nat → Int32) (p1 : Int32) (p2 : Int32) (Q : Int32 → ((Nat → Int32)) → Prop) : Prop :=
  wp_X9_in  p1 (0 : Int32) (4 : Int32) (fun r_1 => (((r_1 = 0) → Q (-1 : Int32) sv) ∧ (¬ (r_1 = 0) → wp_X9_in  p2 (1 : Int32) (60 : Int32) (fun r_3 => ((¬ (r_3 = 0) → (∀ v_5 : Int32, v_5 = (sv 0) → ((¬ (v_5 = (6 : Int32)) → wp_X9_isTaken sv (0 : Int32) v_5 (fun r_7 => ((¬ (r_7 = 0) → Q (-2 : Int32) sv) ∧ ((r_7 = 0) → wp_X9_isTaken sv (1 : Int32) v_5 (fun r_9 => ((¬ (r_9 = 0) → Q (-2 : Int32) sv) ∧ ((r_9 = 0) → wp_X9_isTaken sv (2 : Int32) v_5 (fun r_11 => (((r_11 = 0) → (vp_in ((16 : Int32) + v_5) 161 ∧ ∀ f_14 : Nat → Int32, f_14 = upd sv (((16 : Int32) + v_5)).toNatClampNeg p1 → (vp_in ((4 : Int32) + v_5) 161 ∧ ∀ f_16 : Nat → Int32, f_16 = upd f_14 (((4 : Int32) + v_5)).toNatClampNeg p2 → (∃ j_ : Nat, wp_X9_man_89 p1 p2 Q  j_ f_16 v_5 (0 : Int32))))) ∧ (¬ (r_11 = 0) → Q (-2 : Int32) sv)))))))))) ∧ ((v_5 = (6 : Int32)) → Q (-3 : Int32) sv)))) ∧ ((r_3 = 0) → Q (-1 : Int32) sv))))))
set_option maxHeartbeats 4000000 in
theorem mt_X9_man (l : Launch) (G : GT) (h h_s h_images h_tape h_draft h_items h_moved h_sizes h_lanes h_less h_aside h_order : Nat) (sz : Nat) (kept : Int32) (typed : Int32) (atv : Int32) (sv : Nat → Int32) (p1 : Int32) (p2 : Int32) (Q : Int32 → ((Nat → Int32)) → Prop) (hw : wp_X9_man sv p1 p2 Q) : Met l yX9_man (ws_ yX9_man cX9_man 5 (some .int)) ({ frames := 1, cells := 0, slots := 0, locals := 24 } : Room) (va_Pc [.ref h, .int p1, .int p2] (fun U => U.heap.size = sz ∧ va_P G.1 gCl [oc h 9 [.ref h_s, .ref h_images, .int kept, .ref h_tape, .int typed, .ref h_draft, .int atv, .ref h_items, .ref h_moved, .ref h_sizes, .ref h_lanes, .ref h_less, .ref h_aside, .ref h_order], ai G h_s 161 sv] U.heap ∧ gK G U ∧ va_D (fun _ => True) [oc h 9 [.ref h_s, .ref h_images, .int kept, .ref h_tape, .int typed, .ref h_draft, .int atv, .ref h_items, .ref h_moved, .ref h_sizes, .ref h_lanes, .ref h_less, .ref h_aside, .ref h_order], ai G h_s 161 sv])) ((fun A => (va_Qi (fun (r : Int32) (u : (Nat → Int32)) => Q r u) (fun u t => va_P G.1 gCl [oc h 9 [.ref h_s, .ref h_images, .int kept, .ref h_tape, .int typed, .ref h_draft, .int atv, .ref h_items, .ref h_moved, .ref h_sizes, .ref h_lanes, .ref h_less, .ref h_aside, .ref h_order], ai G h_s 161 u] t.heap ∧ va_D A [oc h 9 [.ref h_s, .ref h_images, .int kept, .ref h_tape, .int typed, .ref h_draft, .int atv, .ref h_items, .ref h_moved, .ref h_sizes, .ref h_lanes, .ref h_less, .ref h_aside, .ref h_order], ai G h_s 161 u]) A)) (va_A [oc h 9 [.ref h_s, .ref h_images, .int kept, .ref h_tape, .int typed, .ref h_draft, .int atv, .ref h_items, .ref h_moved, .ref h_sizes, .ref h_lanes, .ref h_less, .ref h_aside, .ref h_order], ai G h_s 161 sv] sz)) 0 0 (va_A [oc h 9 [.ref h_s, .ref h_images, .int kept, .ref h_tape, .int typed, .ref h_draft, .int atv, .ref h_items, .ref h_moved, .ref h_sizes, .ref h_lanes, .ref h_less, .ref h_aside, .ref h_order], ai G h_s 161 sv] sz) := by
  refine Met.ofW (cc := cX9_man) (maxL := 5) (ret := (some .int)) (by decide) rfl ?_
  intro p e s m args below meth c s₁ B hml hv
  obtain ⟨rfl, hsz, hP, hK, hD0⟩ := hv
  have hx := B.exec
  have hb := B.bytes
  have hr := B.returns
  have hts := atoms_spec (ws := (ws_ yX9_man cX9_man 5 (some .int))) B.pre
  have hts : ∀ w ∈ lw_all, w.before _ s = true := fun w h => hts w (List.mem_cons_of_mem _ h)
  have hown : s.vm.findClass RX9 = some m.cls := findClass_of_methodNamed B.named
  have hlocks := B.notSynchronized
  subst hsz
  have hD := hD0.self (sz := s.heap.size)
  generalize hAe : va_A [oc h 9 [.ref h_s, .ref h_images, .int kept, .ref h_tape, .int typed, .ref h_draft, .int atv, .ref h_items, .ref h_moved, .ref h_sizes, .ref h_lanes, .ref h_less, .ref h_aside, .ref h_order], ai G h_s 161 sv] s.heap.size = A at hD ⊢
  have hA : ∀ q : Nat, s.heap.size ≤ q → A q := fun q h => by rw [← hAe]; exact Or.inr h
  have hS : va_S A s.heap s.heap [] := va_S.rf
  have C : Cx p s m meth c cX9_man 5 (some .int) RX9 ([.ref h, .int p1, .int p2] : List Value).toArray G A := ⟨hx, hb, hr, hlocks, hml, hown, hts, hK, hA⟩
  have hl := lv_entry ([.ref h, .int p1, .int p2]) (n := 5) (Nat.le_of_ble_eq_true rfl)
  rw [lg_entry_eq]
  generalize (lg_sl ([.ref h, .int p1, .int p2]) ++ List.replicate (5 - (lg_sl ([.ref h, .int p1, .int p2])).length) Slot.unset).toArray = ls at hl ⊢
  have hl : lv_has ls 5 [(0, .ref h), (1, .int p1), (2, .int p2)] := hl
  unfold wp_X9_man at hw
  refine lv_iload_n hx hb dX9_man_0 rfl (lv_at hl 1 rfl) ?_
  refine lv_iconst (v := (0 : Int32)) hx hb dX9_man_1 (by decide) ?_
  refine lv_iconst (v := (4 : Int32)) hx hb dX9_man_2 (by decide) ?_
  have hPc := hP.sub (ws' := []) [] rfl
  have hDc := hD.sub (ws' := []) [] (by decide) rfl
  have hFc := va_free (wc := []) hD hS hA [] rfl
  refine va_calli (va_runS (As := [.int p1, .int (0 : Int32), .int (4 : Int32)]) (rest := []) ⟨hx, hb, hml, hown, hts⟩ (mt_X9_in l G  s.heap.size  p1 (0 : Int32) (4 : Int32) _ hw) (va_cwS 3 hts (lw_S q864 q865 q65 q866) rfl rfl rfl (by decide +kernel) ⟨Nat.le_of_ble_eq_true rfl, Nat.le_of_ble_eq_true rfl⟩) ⟨fun a U g mk q => by obtain ⟨q0, q1, qP, qK, qD⟩ := q; exact ⟨q0, q1, qP, qK.call, qD⟩, fun U hU hW => ⟨rfl, by rw [hU], by rw [hU]; exact hPc, hK.warm hW, hDc.weaken (fun _ _ _ _ => trivial)⟩⟩ rfl rfl hl.1 rfl (lv_room (Nat.le_of_ble_eq_true rfl)) dX9_man_3 ⟨Nat.le_of_ble_eq_true rfl, Nat.le_of_ble_eq_true rfl⟩) hS (fun q _ h => hFc q h) hFc (fun r_1 _ t H1 locs ht hvm hw hB hz1 hk1 hS => ?_)
  obtain ⟨hP1, hD1⟩ := hB
  rw [ht] at hP1
  obtain ⟨hP, hD⟩ := va_join (wr := [oc h 9 [.ref h_s, .ref h_images, .int kept, .ref h_tape, .int typed, .ref h_draft, .int atv, .ref h_items, .ref h_moved, .ref h_sizes, .ref h_lanes, .ref h_less, .ref h_aside, .ref h_order], ai G h_s 161 sv]) (w1 := []) hP hD [] [0, 1] rfl rfl (by decide) (by decide) hk1 hFc hP1 hD1
  clear hPc hDc hFc hP1 hD1 hz1 hk1 hvm
  generalize H1 = H at hP hS ⊢
  have hP : va_P G.1 gCl [oc h 9 [.ref h_s, .ref h_images, .int kept, .ref h_tape, .int typed, .ref h_draft, .int atv, .ref h_items, .ref h_moved, .ref h_sizes, .ref h_lanes, .ref h_less, .ref h_aside, .ref h_order], ai G h_s 161 sv] H := hP
  have hD : va_D A [oc h 9 [.ref h_s, .ref h_images, .int kept, .ref h_tape, .int typed, .ref h_draft, .int atv, .ref h_items, .ref h_moved, .ref h_sizes, .ref h_lanes, .ref h_less, .ref h_aside, .ref h_order], ai G h_s 161 sv] := hD
  refine lv_if_eq (tgt := 19) hx hb dX9_man_6 (by decide) (fun c_2 => ?_) (fun c_2 => ?_)
  · replace hw := hw.1 c_2
    refine lv_iconst (v := (-1 : Int32)) hx hb dX9_man_19 (by decide) ?_
    have hP9 := hP
    have hD9 := hD
    exact W.iret (v := (-1 : Int32)) hx hb hr (fun t ht hW => ⟨⟨(-1 : Int32), sv, rfl, hw, by rw [ht]; exact hP9, hD9⟩, hS.F ht⟩) hS.2.2 dX9_man_20
  · replace hw := hw.2 c_2
    refine lv_iload_n hx hb dX9_man_9 rfl (lv_at hl 2 rfl) ?_
    refine lv_iconst (v := (1 : Int32)) hx hb dX9_man_10 (by decide) ?_
    refine lv_bipush (v := (60 : Int32)) hx hb dX9_man_11 (by decide) ?_
    have hPc := hP.sub (ws' := []) [] rfl
    have hDc := hD.sub (ws' := []) [] (by decide) rfl
    have hFc := va_free (wc := []) hD hS hA [] rfl
    refine va_calli (va_runS (As := [.int p2, .int (1 : Int32), .int (60 : Int32)]) (rest := []) ⟨hx, hb, hml, hown, hts⟩ (mt_X9_in l G  H.size  p2 (1 : Int32) (60 : Int32) _ hw) (va_cwS 3 hts (lw_S q864 q865 q65 q866) rfl rfl rfl (by decide +kernel) ⟨Nat.le_of_ble_eq_true rfl, Nat.le_of_ble_eq_true rfl⟩) ⟨fun a U g mk q => by obtain ⟨q0, q1, qP, qK, qD⟩ := q; exact ⟨q0, q1, qP, qK.call, qD⟩, fun U hU hW => ⟨rfl, by rw [hU], by rw [hU]; exact hPc, hK.warm hW, hDc.weaken (fun _ _ _ _ => trivial)⟩⟩ rfl rfl hl.1 rfl (lv_room (Nat.le_of_ble_eq_true rfl)) dX9_man_13 ⟨Nat.le_of_ble_eq_true rfl, Nat.le_of_ble_eq_true rfl⟩) hS (fun q _ h => hFc q h) hFc (fun r_3 _ t H1 locs ht hvm hw hB hz1 hk1 hS => ?_)
    obtain ⟨hP1, hD1⟩ := hB
    rw [ht] at hP1
    obtain ⟨hP, hD⟩ := va_join (wr := [oc h 9 [.ref h_s, .ref h_images, .int kept, .ref h_tape, .int typed, .ref h_draft, .int atv, .ref h_items, .ref h_moved, .ref h_sizes, .ref h_lanes, .ref h_less, .ref h_aside, .ref h_order], ai G h_s 161 sv]) (w1 := []) hP hD [] [0, 1] rfl rfl (by decide) (by decide) hk1 hFc hP1 hD1
    clear hPc hDc hFc hP1 hD1 hz1 hk1 hvm
    generalize H1 = H at hP hS ⊢
    have hP : va_P G.1 gCl [oc h 9 [.ref h_s, .ref h_images, .int kept, .ref h_tape, .int typed, .ref h_draft, .int atv, .ref h_items, .ref h_moved, .ref h_sizes, .ref h_lanes, .ref h_less, .ref h_aside, .ref h_order], ai G h_s 161 sv] H := hP
    have hD : va_D A [oc h 9 [.ref h_s, .ref h_images, .int kept, .ref h_tape, .int typed, .ref h_draft, .int atv, .ref h_items, .ref h_moved, .ref h_sizes, .ref h_lanes, .ref h_less, .ref h_aside, .ref h_order], ai G h_s 161 sv] := hD
    refine lv_if_ne (tgt := 21) hx hb dX9_man_16 (by decide) (fun c_4 => ?_) (fun c_4 => ?_)
    · replace hw := hw.1 c_4
      refine lv_aload_n hx hb dX9_man_21 rfl (lv_at hl 0 rfl) ?_
      refine va_get (D := G.1) (ci := 9) (v := .ref h_s) (C := RX9) (T := TX9) (N := 14) hx hb hts in_X9 hown hK.1 hP 0 rfl rfl 0 (by decide) (hts _ q817) (fun _ h9 => h9) rfl dX9_man_22 ?_
      refine lv_iconst (v := (0 : Int32)) hx hb dX9_man_25 (by decide) ?_
      refine z_iald hx hb hK.1 hP 1 0 rfl rfl (vin_l (by decide +kernel)) dX9_man_26 (k := 0) rfl ?_
      refine lv_topi (fun v_5 ev_5 => ?_)
      replace hw := hw v_5 ev_5
      refine lv_istore_n (lv' := [(3, .int v_5), (0, .ref h), (1, .int p1), (2, .int p2)]) hx hb dX9_man_27 rfl hl (by decide) rfl (fun ls hl => ?_)
      refine lv_iload_n hx hb dX9_man_28 rfl (lv_at hl 0 rfl) ?_
      refine lv_bipush (v := (6 : Int32)) hx hb dX9_man_29 (by decide) ?_
      refine lv_icmp_ne (tgt := 37) hx hb dX9_man_31 (by decide) (fun c_6 => ?_) (fun c_6 => ?_)
      · replace hw := hw.1 c_6
        refine lv_aload_n hx hb dX9_man_37 rfl (lv_at hl 1 rfl) ?_
        refine lv_iconst (v := (0 : Int32)) hx hb dX9_man_38 (by decide) ?_
        refine lv_iload_n hx hb dX9_man_39 rfl (lv_at hl 0 rfl) ?_
        have hPc := hP.sub (ws' := [oc h 9 [.ref h_s, .ref h_images, .int kept, .ref h_tape, .int typed, .ref h_draft, .int atv, .ref h_items, .ref h_moved, .ref h_sizes, .ref h_lanes, .ref h_less, .ref h_aside, .ref h_order], ai G h_s 161 sv]) [0, 1] rfl
        have hDc := hD.sub (ws' := [oc h 9 [.ref h_s, .ref h_images, .int kept, .ref h_tape, .int typed, .ref h_draft, .int atv, .ref h_items, .ref h_moved, .ref h_sizes, .ref h_lanes, .ref h_less, .ref h_aside, .ref h_order], ai G h_s 161 sv]) [0, 1] (by decide) rfl
        have hFc := va_free (wc := [oc h 9 [.ref h_s, .ref h_images, .int kept, .ref h_tape, .int typed, .ref h_draft, .int atv, .ref h_items, .ref h_moved, .ref h_sizes, .ref h_lanes, .ref h_less, .ref h_aside, .ref h_order], ai G h_s 161 sv]) hD hS hA [0, 1] rfl
        refine va_calli (va_runV (As := [.int (0 : Int32), .int v_5]) (rest := []) ⟨hx, hb, hml, hown, hts⟩ (mt_X9_isTaken l G h h_s h_images h_tape h_draft h_items h_moved h_sizes h_lanes h_less h_aside h_order H.size kept typed atv sv (0 : Int32) v_5 _ hw) (cwV 2 hts (lw_V q867 q869 qs26 q65 q870) rfl rfl rfl (by decide +kernel) ⟨Nat.le_of_ble_eq_true rfl, Nat.le_of_ble_eq_true rfl⟩) ⟨fun a U g mk q => by obtain ⟨q0, q1, qP, qK, qD⟩ := q; exact ⟨q0, q1, qP, qK.call, qD⟩, va_recv hK.1 hP (ci := 9) (q0 := 0) rfl rfl, fun U hU hW => ⟨rfl, by rw [hU], by rw [hU]; exact hPc, hK.warm hW, hDc.weaken (fun _ _ _ _ => trivial)⟩⟩ rfl rfl hl.1 rfl (lv_room (Nat.le_of_ble_eq_true rfl)) dX9_man_40 ⟨Nat.le_of_ble_eq_true rfl, Nat.le_of_ble_eq_true rfl⟩) hS (fun q _ h => hFc q h) hFc (fun r_7 _ t H1 locs ht hvm hw hB hz1 hk1 hS => ?_)
        obtain ⟨hP1, hD1⟩ := hB
        rw [ht] at hP1
        obtain ⟨hP, hD⟩ := va_join (wr := []) (w1 := [oc h 9 [.ref h_s, .ref h_images, .int kept, .ref h_tape, .int typed, .ref h_draft, .int atv, .ref h_items, .ref h_moved, .ref h_sizes, .ref h_lanes, .ref h_less, .ref h_aside, .ref h_order], ai G h_s 161 sv]) hP hD [0, 1] [] rfl rfl (by decide) (by decide) hk1 hFc hP1 hD1
        clear hPc hDc hFc hP1 hD1 hz1 hk1 hvm
        generalize H1 = H at hP hS ⊢
        have hP : va_P G.1 gCl [oc h 9 [.ref h_s, .ref h_images, .int kept, .ref h_tape, .int typed, .ref h_draft, .int atv, .ref h_items, .ref h_moved, .ref h_sizes, .ref h_lanes, .ref h_less, .ref h_aside, .ref h_order], ai G h_s 161 sv] H := hP
        have hD : va_D A [oc h 9 [.ref h_s, .ref h_images, .int kept, .ref h_tape, .int typed, .ref h_draft, .int atv, .ref h_items, .ref h_moved, .ref h_sizes, .ref h_lanes, .ref h_less, .ref h_aside, .ref h_order], ai G h_s 161 sv] := hD
        refine lv_if_ne (tgt := 64) hx hb dX9_man_43 (by decide) (fun c_8 => ?_) (fun c_8 => ?_)
        · replace hw := hw.1 c_8
          refine lv_bipush (v := (-2 : Int32)) hx hb dX9_man_64 (by decide) ?_
          have hP9 := hP
          have hD9 := hD
          exact W.iret (v := (-2 : Int32)) hx hb hr (fun t ht hW => ⟨⟨(-2 : Int32), sv, rfl, hw, by rw [ht]; exact hP9, hD9⟩, hS.F ht⟩) hS.2.2 dX9_man_66
        · replace hw := hw.2 c_8
          refine lv_aload_n hx hb dX9_man_46 rfl (lv_at hl 1 rfl) ?_
          refine lv_iconst (v := (1 : Int32)) hx hb dX9_man_47 (by decide) ?_
          refine lv_iload_n hx hb dX9_man_48 rfl (lv_at hl 0 rfl) ?_
          have hPc := hP.sub (ws' := [oc h 9 [.ref h_s, .ref h_images, .int kept, .ref h_tape, .int typed, .ref h_draft, .int atv, .ref h_items, .ref h_moved, .ref h_sizes, .ref h_lanes, .ref h_less, .ref h_aside, .ref h_order], ai G h_s 161 sv]) [0, 1] rfl
          have hDc := hD.sub (ws' := [oc h 9 [.ref h_s, .ref h_images, .int kept, .ref h_tape, .int typed, .ref h_draft, .int atv, .ref h_items, .ref h_moved, .ref h_sizes, .ref h_lanes, .ref h_less, .ref h_aside, .ref h_order], ai G h_s 161 sv]) [0, 1] (by decide) rfl
          have hFc := va_free (wc := [oc h 9 [.ref h_s, .ref h_images, .int kept, .ref h_tape, .int typed, .ref h_draft, .int atv, .ref h_items, .ref h_moved, .ref h_sizes, .ref h_lanes, .ref h_less, .ref h_aside, .ref h_order], ai G h_s 161 sv]) hD hS hA [0, 1] rfl
          refine va_calli (va_runV (As := [.int (1 : Int32), .int v_5]) (rest := []) ⟨hx, hb, hml, hown, hts⟩ (mt_X9_isTaken l G h h_s h_images h_tape h_draft h_items h_moved h_sizes h_lanes h_less h_aside h_order H.size kept typed atv sv (1 : Int32) v_5 _ hw) (cwV 2 hts (lw_V q867 q869 qs26 q65 q870) rfl rfl rfl (by decide +kernel) ⟨Nat.le_of_ble_eq_true rfl, Nat.le_of_ble_eq_true rfl⟩) ⟨fun a U g mk q => by obtain ⟨q0, q1, qP, qK, qD⟩ := q; exact ⟨q0, q1, qP, qK.call, qD⟩, va_recv hK.1 hP (ci := 9) (q0 := 0) rfl rfl, fun U hU hW => ⟨rfl, by rw [hU], by rw [hU]; exact hPc, hK.warm hW, hDc.weaken (fun _ _ _ _ => trivial)⟩⟩ rfl rfl hl.1 rfl (lv_room (Nat.le_of_ble_eq_true rfl)) dX9_man_49 ⟨Nat.le_of_ble_eq_true rfl, Nat.le_of_ble_eq_true rfl⟩) hS (fun q _ h => hFc q h) hFc (fun r_9 _ t H1 locs ht hvm hw hB hz1 hk1 hS => ?_)
          obtain ⟨hP1, hD1⟩ := hB
          rw [ht] at hP1
          obtain ⟨hP, hD⟩ := va_join (wr := []) (w1 := [oc h 9 [.ref h_s, .ref h_images, .int kept, .ref h_tape, .int typed, .ref h_draft, .int atv, .ref h_items, .ref h_moved, .ref h_sizes, .ref h_lanes, .ref h_less, .ref h_aside, .ref h_order], ai G h_s 161 sv]) hP hD [0, 1] [] rfl rfl (by decide) (by decide) hk1 hFc hP1 hD1
          clear hPc hDc hFc hP1 hD1 hz1 hk1 hvm
          generalize H1 = H at hP hS ⊢
          have hP : va_P G.1 gCl [oc h 9 [.ref h_s, .ref h_images, .int kept, .ref h_tape, .int typed, .ref h_draft, .int atv, .ref h_items, .ref h_moved, .ref h_sizes, .ref h_lanes, .ref h_less, .ref h_aside, .ref h_order], ai G h_s 161 sv] H := hP
          have hD : va_D A [oc h 9 [.ref h_s, .ref h_images, .int kept, .ref h_tape, .int typed, .ref h_draft, .int atv, .ref h_items, .ref h_moved, .ref h_sizes, .ref h_lanes, .ref h_less, .ref h_aside, .ref h_order], ai G h_s 161 sv] := hD
          refine lv_if_ne (tgt := 64) hx hb dX9_man_52 (by decide) (fun c_10 => ?_) (fun c_10 => ?_)
          · replace hw := hw.1 c_10
            refine lv_bipush (v := (-2 : Int32)) hx hb dX9_man_64 (by decide) ?_
            have hP9 := hP
            have hD9 := hD
            exact W.iret (v := (-2 : Int32)) hx hb hr (fun t ht hW => ⟨⟨(-2 : Int32), sv, rfl, hw, by rw [ht]; exact hP9, hD9⟩, hS.F ht⟩) hS.2.2 dX9_man_66
          · replace hw := hw.2 c_10
            refine lv_aload_n hx hb dX9_man_55 rfl (lv_at hl 1 rfl) ?_
            refine lv_iconst (v := (2 : Int32)) hx hb dX9_man_56 (by decide) ?_
            refine lv_iload_n hx hb dX9_man_57 rfl (lv_at hl 0 rfl) ?_
            have hPc := hP.sub (ws' := [oc h 9 [.ref h_s, .ref h_images, .int kept, .ref h_tape, .int typed, .ref h_draft, .int atv, .ref h_items, .ref h_moved, .ref h_sizes, .ref h_lanes, .ref h_less, .ref h_aside, .ref h_order], ai G h_s 161 sv]) [0, 1] rfl
            have hDc := hD.sub (ws' := [oc h 9 [.ref h_s, .ref h_images, .int kept, .ref h_tape, .int typed, .ref h_draft, .int atv, .ref h_items, .ref h_moved, .ref h_sizes, .ref h_lanes, .ref h_less, .ref h_aside, .ref h_order], ai G h_s 161 sv]) [0, 1] (by decide) rfl
            have hFc := va_free (wc := [oc h 9 [.ref h_s, .ref h_images, .int kept, .ref h_tape, .int typed, .ref h_draft, .int atv, .ref h_items, .ref h_moved, .ref h_sizes, .ref h_lanes, .ref h_less, .ref h_aside, .ref h_order], ai G h_s 161 sv]) hD hS hA [0, 1] rfl
            refine va_calli (va_runV (As := [.int (2 : Int32), .int v_5]) (rest := []) ⟨hx, hb, hml, hown, hts⟩ (mt_X9_isTaken l G h h_s h_images h_tape h_draft h_items h_moved h_sizes h_lanes h_less h_aside h_order H.size kept typed atv sv (2 : Int32) v_5 _ hw) (cwV 2 hts (lw_V q867 q869 qs26 q65 q870) rfl rfl rfl (by decide +kernel) ⟨Nat.le_of_ble_eq_true rfl, Nat.le_of_ble_eq_true rfl⟩) ⟨fun a U g mk q => by obtain ⟨q0, q1, qP, qK, qD⟩ := q; exact ⟨q0, q1, qP, qK.call, qD⟩, va_recv hK.1 hP (ci := 9) (q0 := 0) rfl rfl, fun U hU hW => ⟨rfl, by rw [hU], by rw [hU]; exact hPc, hK.warm hW, hDc.weaken (fun _ _ _ _ => trivial)⟩⟩ rfl rfl hl.1 rfl (lv_room (Nat.le_of_ble_eq_true rfl)) dX9_man_58 ⟨Nat.le_of_ble_eq_true rfl, Nat.le_of_ble_eq_true rfl⟩) hS (fun q _ h => hFc q h) hFc (fun r_11 _ t H1 locs ht hvm hw hB hz1 hk1 hS => ?_)
            obtain ⟨hP1, hD1⟩ := hB
            rw [ht] at hP1
            obtain ⟨hP, hD⟩ := va_join (wr := []) (w1 := [oc h 9 [.ref h_s, .ref h_images, .int kept, .ref h_tape, .int typed, .ref h_draft, .int atv, .ref h_items, .ref h_moved, .ref h_sizes, .ref h_lanes, .ref h_less, .ref h_aside, .ref h_order], ai G h_s 161 sv]) hP hD [0, 1] [] rfl rfl (by decide) (by decide) hk1 hFc hP1 hD1
            clear hPc hDc hFc hP1 hD1 hz1 hk1 hvm
            generalize H1 = H at hP hS ⊢
            have hP : va_P G.1 gCl [oc h 9 [.ref h_s, .ref h_images, .int kept, .ref h_tape, .int typed, .ref h_draft, .int atv, .ref h_items, .ref h_moved, .ref h_sizes, .ref h_lanes, .ref h_less, .ref h_aside, .ref h_order], ai G h_s 161 sv] H := hP
            have hD : va_D A [oc h 9 [.ref h_s, .ref h_images, .int kept, .ref h_tape, .int typed, .ref h_draft, .int atv, .ref h_items, .ref h_moved, .ref h_sizes, .ref h_lanes, .ref h_less, .ref h_aside, .ref h_order], ai G h_s 161 sv] := hD
            refine lv_if_eq (tgt := 67) hx hb dX9_man_61 (by decide) (fun c_12 => ?_) (fun c_12 => ?_)
            · replace hw := hw.1 c_12
              refine lv_aload_n hx hb dX9_man_67 rfl (lv_at hl 1 rfl) ?_
              refine va_get (D := G.1) (ci := 9) (v := .ref h_s) (C := RX9) (T := TX9) (N := 14) hx hb hts in_X9 hown hK.1 hP 0 rfl rfl 0 (by decide) (hts _ q817) (fun _ h9 => h9) rfl dX9_man_68 ?_
              refine lv_bipush (v := (16 : Int32)) hx hb dX9_man_71 (by decide) ?_
              refine lv_iload_n hx hb dX9_man_73 rfl (lv_at hl 0 rfl) ?_
              refine lv_iadd hx hb dX9_man_74 ?_
              refine lv_iload_n hx hb dX9_man_75 rfl (lv_at hl 2 rfl) ?_
              obtain ⟨i_13, hw⟩ := hw
              refine z_iast hx hb hK.1 hP hD hS 1 0 rfl rfl i_13 dX9_man_76 (k := (((16 : Int32) + v_5)).toNatClampNeg) rfl (fun f_14 ef_14 H locs hP hD hS => ?_)
              replace hw := hw f_14 ef_14
              have hP : va_P G.1 gCl [oc h 9 [.ref h_s, .ref h_images, .int kept, .ref h_tape, .int typed, .ref h_draft, .int atv, .ref h_items, .ref h_moved, .ref h_sizes, .ref h_lanes, .ref h_less, .ref h_aside, .ref h_order], ai G h_s 161 f_14] H := hP
              have hD : va_D A [oc h 9 [.ref h_s, .ref h_images, .int kept, .ref h_tape, .int typed, .ref h_draft, .int atv, .ref h_items, .ref h_moved, .ref h_sizes, .ref h_lanes, .ref h_less, .ref h_aside, .ref h_order], ai G h_s 161 f_14] := hD
              refine lv_aload_n hx hb dX9_man_77 rfl (lv_at hl 1 rfl) ?_
              refine va_get (D := G.1) (ci := 9) (v := .ref h_s) (C := RX9) (T := TX9) (N := 14) hx hb hts in_X9 hown hK.1 hP 0 rfl rfl 0 (by decide) (hts _ q817) (fun _ h9 => h9) rfl dX9_man_78 ?_
              refine lv_iconst (v := (4 : Int32)) hx hb dX9_man_81 (by decide) ?_
              refine lv_iload_n hx hb dX9_man_82 rfl (lv_at hl 0 rfl) ?_
              refine lv_iadd hx hb dX9_man_83 ?_
              refine lv_iload_n hx hb dX9_man_84 rfl (lv_at hl 3 rfl) ?_
              obtain ⟨i_15, hw⟩ := hw
              refine z_iast hx hb hK.1 hP hD hS 1 0 rfl rfl i_15 dX9_man_85 (k := (((4 : Int32) + v_5)).toNatClampNeg) rfl (fun f_16 ef_16 H locs hP hD hS => ?_)
              replace hw := hw f_16 ef_16
              have hP : va_P G.1 gCl [oc h 9 [.ref h_s, .ref h_images, .int kept, .ref h_tape, .int typed, .ref h_draft, .int atv, .ref h_items, .ref h_moved, .ref h_sizes, .ref h_lanes, .ref h_less, .ref h_aside, .ref h_order], ai G h_s 161 f_16] H := hP
              have hD : va_D A [oc h 9 [.ref h_s, .ref h_images, .int kept, .ref h_tape, .int typed, .ref h_draft, .int atv, .ref h_items, .ref h_moved, .ref h_sizes, .ref h_lanes, .ref h_less, .ref h_aside, .ref h_order], ai G h_s 161 f_16] := hD
              refine lv_iconst (v := (0 : Int32)) hx hb dX9_man_86 (by decide) ?_
              refine lv_istore (lv' := [(4, .int (0 : Int32)), (3, .int v_5), (0, .ref h), (1, .int p1), (2, .int p2)]) hx hb dX9_man_87 hl (by decide) rfl (fun ls hl => ?_)
              obtain ⟨j_, hw⟩ := hw
              exact wk_X9_man_89 h h_s h_images h_tape h_draft h_items h_moved h_sizes h_lanes h_less h_aside h_order kept typed atv p1 p2  Q  C  j_ f_16 v_5 (0 : Int32) H locs hP hD hS ls (lv_sub hl [2, 1, 0] rfl) hw
            · replace hw := hw.2 c_12
              refine lv_bipush (v := (-2 : Int32)) hx hb dX9_man_64 (by decide) ?_
              have hP9 := hP
              have hD9 := hD
              exact W.iret (v := (-2 : Int32)) hx hb hr (fun t ht hW => ⟨⟨(-2 : Int32), sv, rfl, hw, by rw [ht]; exact hP9, hD9⟩, hS.F ht⟩) hS.2.2 dX9_man_66
      · replace hw := hw.2 c_6
        refine lv_bipush (v := (-3 : Int32)) hx hb dX9_man_34 (by decide) ?_
        have hP9 := hP
        have hD9 := hD
        exact W.iret (v := (-3 : Int32)) hx hb hr (fun t ht hW => ⟨⟨(-3 : Int32), sv, rfl, hw, by rw [ht]; exact hP9, hD9⟩, hS.F ht⟩) hS.2.2 dX9_man_36
    · replace hw := hw.2 c_4
      refine lv_iconst (v := (-1 : Int32)) hx hb dX9_man_19 (by decide) ?_
      have hP9 := hP
      have hD9 := hD
      exact W.iret (v := (-1 : Int32)) hx hb hr (fun t ht hW => ⟨⟨(-1 : Int32), sv, rfl, hw, by rw [ht]; exact hP9, hD9⟩, hS.F ht⟩) hS.2.2 dX9_man_20
/-! BattleBenchModel.isMan(I)Z -/
def wp_X9_isMan (sv : Nat → Int32) (p1 : Int32) (Q : Int32 → Prop) : Prop :=
  wp_X9_in  p1 (0 : Int32) ((sv 0) - (1 : Int32)) (fun r_1 => (z01 r_1 ∧ Q r_1))
set_option maxHeartbeats 4000000 in
theorem mt_X9_isMan (l : Launch) (G : GT) (h h_s h_images h_tape h_draft h_items h_moved h_sizes h_lanes h_less h_aside h_order : Nat) (sz : Nat) (kept : Int32) (typed : Int32) (atv : Int32) (sv : Nat → Int32) (p1 : Int32) (Q : Int32 → Prop) (hw : wp_X9_isMan sv p1 Q) : Met l yX9_isMan (ws_ yX9_isMan cX9_isMan 2 (some .boolean)) ({ frames := 1, cells := 0, slots := 0, locals := 22 } : Room) (va_Pc [.ref h, .int p1] (fun U => U.heap.size = sz ∧ va_P G.1 gCl [oc h 9 [.ref h_s, .ref h_images, .int kept, .ref h_tape, .int typed, .ref h_draft, .int atv, .ref h_items, .ref h_moved, .ref h_sizes, .ref h_lanes, .ref h_less, .ref h_aside, .ref h_order], ai G h_s 161 sv] U.heap ∧ gK G U ∧ va_D (fun _ => True) [oc h 9 [.ref h_s, .ref h_images, .int kept, .ref h_tape, .int typed, .ref h_draft, .int atv, .ref h_items, .ref h_moved, .ref h_sizes, .ref h_lanes, .ref h_less, .ref h_aside, .ref h_order], ai G h_s 161 sv])) ((fun A => (va_Qi (fun (r : Int32) (u : Unit) => Q r ) (fun u t => va_P G.1 gCl [oc h 9 [.ref h_s, .ref h_images, .int kept, .ref h_tape, .int typed, .ref h_draft, .int atv, .ref h_items, .ref h_moved, .ref h_sizes, .ref h_lanes, .ref h_less, .ref h_aside, .ref h_order], ai G h_s 161 sv] t.heap ∧ va_D A [oc h 9 [.ref h_s, .ref h_images, .int kept, .ref h_tape, .int typed, .ref h_draft, .int atv, .ref h_items, .ref h_moved, .ref h_sizes, .ref h_lanes, .ref h_less, .ref h_aside, .ref h_order], ai G h_s 161 sv]) A)) (va_A [oc h 9 [.ref h_s, .ref h_images, .int kept, .ref h_tape, .int typed, .ref h_draft, .int atv, .ref h_items, .ref h_moved, .ref h_sizes, .ref h_lanes, .ref h_less, .ref h_aside, .ref h_order], ai G h_s 161 sv] sz)) 0 0 (va_A [oc h 9 [.ref h_s, .ref h_images, .int kept, .ref h_tape, .int typed, .ref h_draft, .int atv, .ref h_items, .ref h_moved, .ref h_sizes, .ref h_lanes, .ref h_less, .ref h_aside, .ref h_order], ai G h_s 161 sv] sz) := by
  refine Met.ofW (cc := cX9_isMan) (maxL := 2) (ret := (some .boolean)) (by decide) rfl ?_
  intro p e s m args below meth c s₁ B hml hv
  obtain ⟨rfl, hsz, hP, hK, hD0⟩ := hv
  have hx := B.exec
  have hb := B.bytes
  have hr := B.returns
  have hts := atoms_spec (ws := (ws_ yX9_isMan cX9_isMan 2 (some .boolean))) B.pre
  have hts : ∀ w ∈ lw_all, w.before _ s = true := fun w h => hts w (List.mem_cons_of_mem _ h)
  have hown : s.vm.findClass RX9 = some m.cls := findClass_of_methodNamed B.named
  have hlocks := B.notSynchronized
  subst hsz
  have hD := hD0.self (sz := s.heap.size)
  generalize hAe : va_A [oc h 9 [.ref h_s, .ref h_images, .int kept, .ref h_tape, .int typed, .ref h_draft, .int atv, .ref h_items, .ref h_moved, .ref h_sizes, .ref h_lanes, .ref h_less, .ref h_aside, .ref h_order], ai G h_s 161 sv] s.heap.size = A at hD ⊢
  have hA : ∀ q : Nat, s.heap.size ≤ q → A q := fun q h => by rw [← hAe]; exact Or.inr h
  have hS : va_S A s.heap s.heap [] := va_S.rf
  have C : Cx p s m meth c cX9_isMan 2 (some .boolean) RX9 ([.ref h, .int p1] : List Value).toArray G A := ⟨hx, hb, hr, hlocks, hml, hown, hts, hK, hA⟩
  have hl := lv_entry ([.ref h, .int p1]) (n := 2) (Nat.le_of_ble_eq_true rfl)
  rw [lg_entry_eq]
  generalize (lg_sl ([.ref h, .int p1]) ++ List.replicate (2 - (lg_sl ([.ref h, .int p1])).length) Slot.unset).toArray = ls at hl ⊢
  have hl : lv_has ls 2 [(0, .ref h), (1, .int p1)] := hl
  unfold wp_X9_isMan at hw
  refine lv_iload_n hx hb dX9_isMan_0 rfl (lv_at hl 1 rfl) ?_
  refine lv_iconst (v := (0 : Int32)) hx hb dX9_isMan_1 (by decide) ?_
  refine lv_aload_n hx hb dX9_isMan_2 rfl (lv_at hl 0 rfl) ?_
  refine va_get (D := G.1) (ci := 9) (v := .ref h_s) (C := RX9) (T := TX9) (N := 14) hx hb hts in_X9 hown hK.1 hP 0 rfl rfl 0 (by decide) (hts _ q817) (fun _ h9 => h9) rfl dX9_isMan_3 ?_
  refine lv_iconst (v := (0 : Int32)) hx hb dX9_isMan_6 (by decide) ?_
  refine z_iald hx hb hK.1 hP 1 0 rfl rfl (vin_l (by decide +kernel)) dX9_isMan_7 (k := 0) rfl ?_
  refine lv_iconst (v := (1 : Int32)) hx hb dX9_isMan_8 (by decide) ?_
  refine lv_isub hx hb dX9_isMan_9 ?_
  have hPc := hP.sub (ws' := []) [] rfl
  have hDc := hD.sub (ws' := []) [] (by decide) rfl
  have hFc := va_free (wc := []) hD hS hA [] rfl
  refine va_calli (va_runS (As := [.int p1, .int (0 : Int32), .int ((sv 0) - (1 : Int32))]) (rest := []) ⟨hx, hb, hml, hown, hts⟩ (mt_X9_in l G  s.heap.size  p1 (0 : Int32) ((sv 0) - (1 : Int32)) _ hw) (va_cwS 3 hts (lw_S q864 q865 q65 q866) rfl rfl rfl (by decide +kernel) ⟨Nat.le_of_ble_eq_true rfl, Nat.le_of_ble_eq_true rfl⟩) ⟨fun a U g mk q => by obtain ⟨q0, q1, qP, qK, qD⟩ := q; exact ⟨q0, q1, qP, qK.call, qD⟩, fun U hU hW => ⟨rfl, by rw [hU], by rw [hU]; exact hPc, hK.warm hW, hDc.weaken (fun _ _ _ _ => trivial)⟩⟩ rfl rfl hl.1 rfl (lv_room (Nat.le_of_ble_eq_true rfl)) dX9_isMan_10 ⟨Nat.le_of_ble_eq_true rfl, Nat.le_of_ble_eq_true rfl⟩) hS (fun q _ h => hFc q h) hFc (fun r_1 _ t H1 locs ht hvm hw hB hz1 hk1 hS => ?_)
  obtain ⟨hP1, hD1⟩ := hB
  rw [ht] at hP1
  obtain ⟨hP, hD⟩ := va_join (wr := [oc h 9 [.ref h_s, .ref h_images, .int kept, .ref h_tape, .int typed, .ref h_draft, .int atv, .ref h_items, .ref h_moved, .ref h_sizes, .ref h_lanes, .ref h_less, .ref h_aside, .ref h_order], ai G h_s 161 sv]) (w1 := []) hP hD [] [0, 1] rfl rfl (by decide) (by decide) hk1 hFc hP1 hD1
  clear hPc hDc hFc hP1 hD1 hz1 hk1 hvm
  generalize H1 = H at hP hS ⊢
  have hP : va_P G.1 gCl [oc h 9 [.ref h_s, .ref h_images, .int kept, .ref h_tape, .int typed, .ref h_draft, .int atv, .ref h_items, .ref h_moved, .ref h_sizes, .ref h_lanes, .ref h_less, .ref h_aside, .ref h_order], ai G h_s 161 sv] H := hP
  have hD : va_D A [oc h 9 [.ref h_s, .ref h_images, .int kept, .ref h_tape, .int typed, .ref h_draft, .int atv, .ref h_items, .ref h_moved, .ref h_sizes, .ref h_lanes, .ref h_less, .ref h_aside, .ref h_order], ai G h_s 161 sv] := hD
  obtain ⟨hz, hw⟩ := hw
  have hP9 := hP
  have hD9 := hD
  exact W.zret (v := r_1) hx hb hr (z01.nar hz) (fun t ht hW => ⟨⟨r_1, (), rfl, hw, by rw [ht]; exact hP9, hD9⟩, hS.F ht⟩) hS.2.2 dX9_isMan_13
/-! BattleBenchModel.stood(III)I -/
def wp_X9_stood (sv : Nat → Int32) (p1 : Int32) (p2 : Int32) (p3 : Int32) (Q : Int32 → ((Nat → Int32)) → Prop) : Prop :=
  wp_X9_isMan sv p1 (fun r_1 => (((r_1 = 0) → Q (-1 : Int32) sv) ∧ (¬ (r_1 = 0) → wp_X9_in  p2 (0 : Int32) (2 : Int32) (fun r_3 => (((r_3 = 0) → Q (-1 : Int32) sv) ∧ (¬ (r_3 = 0) → wp_X9_in  p3 (0 : Int32) (9 : Int32) (fun r_5 => ((¬ (r_5 = 0) → wp_X9_isTaken sv p2 p3 (fun r_7 => (((r_7 = 0) → (vp_in (((22 : Int32) + ((3 : Int32) * p1)) + p2) 161 ∧ (∀ v_10 : Int32, v_10 = (sv ((((22 : Int32) + ((3 : Int32) * p1)) + p2)).toNatClampNeg) → (vp_in (((22 : Int32) + ((3 : Int32) * p1)) + p2) 161 ∧ ∀ f_12 : Nat → Int32, f_12 = upd sv ((((22 : Int32) + ((3 : Int32) * p1)) + p2)).toNatClampNeg p3 → Q v_10 f_12)))) ∧ (¬ (r_7 = 0) → Q (-2 : Int32) sv)))) ∧ ((r_5 = 0) → Q (-1 : Int32) sv)))))))))
set_option maxHeartbeats 4000000 in
theorem mt_X9_stood (l : Launch) (G : GT) (h h_s h_images h_tape h_draft h_items h_moved h_sizes h_lanes h_less h_aside h_order : Nat) (sz : Nat) (kept : Int32) (typed : Int32) (atv : Int32) (sv : Nat → Int32) (p1 : Int32) (p2 : Int32) (p3 : Int32) (Q : Int32 → ((Nat → Int32)) → Prop) (hw : wp_X9_stood sv p1 p2 p3 Q) : Met l yX9_stood (ws_ yX9_stood cX9_stood 5 (some .int)) ({ frames := 2, cells := 0, slots := 0, locals := 43 } : Room) (va_Pc [.ref h, .int p1, .int p2, .int p3] (fun U => U.heap.size = sz ∧ va_P G.1 gCl [oc h 9 [.ref h_s, .ref h_images, .int kept, .ref h_tape, .int typed, .ref h_draft, .int atv, .ref h_items, .ref h_moved, .ref h_sizes, .ref h_lanes, .ref h_less, .ref h_aside, .ref h_order], ai G h_s 161 sv] U.heap ∧ gK G U ∧ va_D (fun _ => True) [oc h 9 [.ref h_s, .ref h_images, .int kept, .ref h_tape, .int typed, .ref h_draft, .int atv, .ref h_items, .ref h_moved, .ref h_sizes, .ref h_lanes, .ref h_less, .ref h_aside, .ref h_order], ai G h_s 161 sv])) ((fun A => (va_Qi (fun (r : Int32) (u : (Nat → Int32)) => Q r u) (fun u t => va_P G.1 gCl [oc h 9 [.ref h_s, .ref h_images, .int kept, .ref h_tape, .int typed, .ref h_draft, .int atv, .ref h_items, .ref h_moved, .ref h_sizes, .ref h_lanes, .ref h_less, .ref h_aside, .ref h_order], ai G h_s 161 u] t.heap ∧ va_D A [oc h 9 [.ref h_s, .ref h_images, .int kept, .ref h_tape, .int typed, .ref h_draft, .int atv, .ref h_items, .ref h_moved, .ref h_sizes, .ref h_lanes, .ref h_less, .ref h_aside, .ref h_order], ai G h_s 161 u]) A)) (va_A [oc h 9 [.ref h_s, .ref h_images, .int kept, .ref h_tape, .int typed, .ref h_draft, .int atv, .ref h_items, .ref h_moved, .ref h_sizes, .ref h_lanes, .ref h_less, .ref h_aside, .ref h_order], ai G h_s 161 sv] sz)) 0 0 (va_A [oc h 9 [.ref h_s, .ref h_images, .int kept, .ref h_tape, .int typed, .ref h_draft, .int atv, .ref h_items, .ref h_moved, .ref h_sizes, .ref h_lanes, .ref h_less, .ref h_aside, .ref h_order], ai G h_s 161 sv] sz) := by
  refine Met.ofW (cc := cX9_stood) (maxL := 5) (ret := (some .int)) (by decide) rfl ?_
  intro p e s m args below meth c s₁ B hml hv
  obtain ⟨rfl, hsz, hP, hK, hD0⟩ := hv
  have hx := B.exec
  have hb := B.bytes
  have hr := B.returns
  have hts := atoms_spec (ws := (ws_ yX9_stood cX9_stood 5 (some .int))) B.pre
  have hts : ∀ w ∈ lw_all, w.before _ s = true := fun w h => hts w (List.mem_cons_of_mem _ h)
  have hown : s.vm.findClass RX9 = some m.cls := findClass_of_methodNamed B.named
  have hlocks := B.notSynchronized
  subst hsz
  have hD := hD0.self (sz := s.heap.size)
  generalize hAe : va_A [oc h 9 [.ref h_s, .ref h_images, .int kept, .ref h_tape, .int typed, .ref h_draft, .int atv, .ref h_items, .ref h_moved, .ref h_sizes, .ref h_lanes, .ref h_less, .ref h_aside, .ref h_order], ai G h_s 161 sv] s.heap.size = A at hD ⊢
  have hA : ∀ q : Nat, s.heap.size ≤ q → A q := fun q h => by rw [← hAe]; exact Or.inr h
  have hS : va_S A s.heap s.heap [] := va_S.rf
  have C : Cx p s m meth c cX9_stood 5 (some .int) RX9 ([.ref h, .int p1, .int p2, .int p3] : List Value).toArray G A := ⟨hx, hb, hr, hlocks, hml, hown, hts, hK, hA⟩
  have hl := lv_entry ([.ref h, .int p1, .int p2, .int p3]) (n := 5) (Nat.le_of_ble_eq_true rfl)
  rw [lg_entry_eq]
  generalize (lg_sl ([.ref h, .int p1, .int p2, .int p3]) ++ List.replicate (5 - (lg_sl ([.ref h, .int p1, .int p2, .int p3])).length) Slot.unset).toArray = ls at hl ⊢
  have hl : lv_has ls 5 [(0, .ref h), (1, .int p1), (2, .int p2), (3, .int p3)] := hl
  unfold wp_X9_stood at hw
  refine lv_aload_n hx hb dX9_stood_0 rfl (lv_at hl 0 rfl) ?_
  refine lv_iload_n hx hb dX9_stood_1 rfl (lv_at hl 1 rfl) ?_
  have hPc := hP.sub (ws' := [oc h 9 [.ref h_s, .ref h_images, .int kept, .ref h_tape, .int typed, .ref h_draft, .int atv, .ref h_items, .ref h_moved, .ref h_sizes, .ref h_lanes, .ref h_less, .ref h_aside, .ref h_order], ai G h_s 161 sv]) [0, 1] rfl
  have hDc := hD.sub (ws' := [oc h 9 [.ref h_s, .ref h_images, .int kept, .ref h_tape, .int typed, .ref h_draft, .int atv, .ref h_items, .ref h_moved, .ref h_sizes, .ref h_lanes, .ref h_less, .ref h_aside, .ref h_order], ai G h_s 161 sv]) [0, 1] (by decide) rfl
  have hFc := va_free (wc := [oc h 9 [.ref h_s, .ref h_images, .int kept, .ref h_tape, .int typed, .ref h_draft, .int atv, .ref h_items, .ref h_moved, .ref h_sizes, .ref h_lanes, .ref h_less, .ref h_aside, .ref h_order], ai G h_s 161 sv]) hD hS hA [0, 1] rfl
  refine va_calli (va_runV (As := [.int p1]) (rest := []) ⟨hx, hb, hml, hown, hts⟩ (mt_X9_isMan l G h h_s h_images h_tape h_draft h_items h_moved h_sizes h_lanes h_less h_aside h_order s.heap.size kept typed atv sv p1 _ hw) (cwV 1 hts (lw_V q875 q877 qs27 q65 q878) rfl rfl rfl (by decide +kernel) ⟨Nat.le_of_ble_eq_true rfl, Nat.le_of_ble_eq_true rfl⟩) ⟨fun a U g mk q => by obtain ⟨q0, q1, qP, qK, qD⟩ := q; exact ⟨q0, q1, qP, qK.call, qD⟩, va_recv hK.1 hP (ci := 9) (q0 := 0) rfl rfl, fun U hU hW => ⟨rfl, by rw [hU], by rw [hU]; exact hPc, hK.warm hW, hDc.weaken (fun _ _ _ _ => trivial)⟩⟩ rfl rfl hl.1 rfl (lv_room (Nat.le_of_ble_eq_true rfl)) dX9_stood_2 ⟨Nat.le_of_ble_eq_true rfl, Nat.le_of_ble_eq_true rfl⟩) hS (fun q _ h => hFc q h) hFc (fun r_1 _ t H1 locs ht hvm hw hB hz1 hk1 hS => ?_)
  obtain ⟨hP1, hD1⟩ := hB
  rw [ht] at hP1
  obtain ⟨hP, hD⟩ := va_join (wr := []) (w1 := [oc h 9 [.ref h_s, .ref h_images, .int kept, .ref h_tape, .int typed, .ref h_draft, .int atv, .ref h_items, .ref h_moved, .ref h_sizes, .ref h_lanes, .ref h_less, .ref h_aside, .ref h_order], ai G h_s 161 sv]) hP hD [0, 1] [] rfl rfl (by decide) (by decide) hk1 hFc hP1 hD1
  clear hPc hDc hFc hP1 hD1 hz1 hk1 hvm
  generalize H1 = H at hP hS ⊢
  have hP : va_P G.1 gCl [oc h 9 [.ref h_s, .ref h_images, .int kept, .ref h_tape, .int typed, .ref h_draft, .int atv, .ref h_items, .ref h_moved, .ref h_sizes, .ref h_lanes, .ref h_less, .ref h_aside, .ref h_order], ai G h_s 161 sv] H := hP
  have hD : va_D A [oc h 9 [.ref h_s, .ref h_images, .int kept, .ref h_tape, .int typed, .ref h_draft, .int atv, .ref h_items, .ref h_moved, .ref h_sizes, .ref h_lanes, .ref h_less, .ref h_aside, .ref h_order], ai G h_s 161 sv] := hD
  refine lv_if_eq (tgt := 27) hx hb dX9_stood_5 (by decide) (fun c_2 => ?_) (fun c_2 => ?_)
  · replace hw := hw.1 c_2
    refine lv_iconst (v := (-1 : Int32)) hx hb dX9_stood_27 (by decide) ?_
    have hP9 := hP
    have hD9 := hD
    exact W.iret (v := (-1 : Int32)) hx hb hr (fun t ht hW => ⟨⟨(-1 : Int32), sv, rfl, hw, by rw [ht]; exact hP9, hD9⟩, hS.F ht⟩) hS.2.2 dX9_stood_28
  · replace hw := hw.2 c_2
    refine lv_iload_n hx hb dX9_stood_8 rfl (lv_at hl 2 rfl) ?_
    refine lv_iconst (v := (0 : Int32)) hx hb dX9_stood_9 (by decide) ?_
    refine lv_iconst (v := (2 : Int32)) hx hb dX9_stood_10 (by decide) ?_
    have hPc := hP.sub (ws' := []) [] rfl
    have hDc := hD.sub (ws' := []) [] (by decide) rfl
    have hFc := va_free (wc := []) hD hS hA [] rfl
    refine va_calli (va_runS (As := [.int p2, .int (0 : Int32), .int (2 : Int32)]) (rest := []) ⟨hx, hb, hml, hown, hts⟩ (mt_X9_in l G  H.size  p2 (0 : Int32) (2 : Int32) _ hw) (va_cwS 3 hts (lw_S q864 q865 q65 q866) rfl rfl rfl (by decide +kernel) ⟨Nat.le_of_ble_eq_true rfl, Nat.le_of_ble_eq_true rfl⟩) ⟨fun a U g mk q => by obtain ⟨q0, q1, qP, qK, qD⟩ := q; exact ⟨q0, q1, qP, qK.call, qD⟩, fun U hU hW => ⟨rfl, by rw [hU], by rw [hU]; exact hPc, hK.warm hW, hDc.weaken (fun _ _ _ _ => trivial)⟩⟩ rfl rfl hl.1 rfl (lv_room (Nat.le_of_ble_eq_true rfl)) dX9_stood_11 ⟨Nat.le_of_ble_eq_true rfl, Nat.le_of_ble_eq_true rfl⟩) hS (fun q _ h => hFc q h) hFc (fun r_3 _ t H1 locs ht hvm hw hB hz1 hk1 hS => ?_)
    obtain ⟨hP1, hD1⟩ := hB
    rw [ht] at hP1
    obtain ⟨hP, hD⟩ := va_join (wr := [oc h 9 [.ref h_s, .ref h_images, .int kept, .ref h_tape, .int typed, .ref h_draft, .int atv, .ref h_items, .ref h_moved, .ref h_sizes, .ref h_lanes, .ref h_less, .ref h_aside, .ref h_order], ai G h_s 161 sv]) (w1 := []) hP hD [] [0, 1] rfl rfl (by decide) (by decide) hk1 hFc hP1 hD1
    clear hPc hDc hFc hP1 hD1 hz1 hk1 hvm
    generalize H1 = H at hP hS ⊢
    have hP : va_P G.1 gCl [oc h 9 [.ref h_s, .ref h_images, .int kept, .ref h_tape, .int typed, .ref h_draft, .int atv, .ref h_items, .ref h_moved, .ref h_sizes, .ref h_lanes, .ref h_less, .ref h_aside, .ref h_order], ai G h_s 161 sv] H := hP
    have hD : va_D A [oc h 9 [.ref h_s, .ref h_images, .int kept, .ref h_tape, .int typed, .ref h_draft, .int atv, .ref h_items, .ref h_moved, .ref h_sizes, .ref h_lanes, .ref h_less, .ref h_aside, .ref h_order], ai G h_s 161 sv] := hD
    refine lv_if_eq (tgt := 27) hx hb dX9_stood_14 (by decide) (fun c_4 => ?_) (fun c_4 => ?_)
    · replace hw := hw.1 c_4
      refine lv_iconst (v := (-1 : Int32)) hx hb dX9_stood_27 (by decide) ?_
      have hP9 := hP
      have hD9 := hD
      exact W.iret (v := (-1 : Int32)) hx hb hr (fun t ht hW => ⟨⟨(-1 : Int32), sv, rfl, hw, by rw [ht]; exact hP9, hD9⟩, hS.F ht⟩) hS.2.2 dX9_stood_28
    · replace hw := hw.2 c_4
      refine lv_iload_n hx hb dX9_stood_17 rfl (lv_at hl 3 rfl) ?_
      refine lv_iconst (v := (0 : Int32)) hx hb dX9_stood_18 (by decide) ?_
      refine lv_bipush (v := (9 : Int32)) hx hb dX9_stood_19 (by decide) ?_
      have hPc := hP.sub (ws' := []) [] rfl
      have hDc := hD.sub (ws' := []) [] (by decide) rfl
      have hFc := va_free (wc := []) hD hS hA [] rfl
      refine va_calli (va_runS (As := [.int p3, .int (0 : Int32), .int (9 : Int32)]) (rest := []) ⟨hx, hb, hml, hown, hts⟩ (mt_X9_in l G  H.size  p3 (0 : Int32) (9 : Int32) _ hw) (va_cwS 3 hts (lw_S q864 q865 q65 q866) rfl rfl rfl (by decide +kernel) ⟨Nat.le_of_ble_eq_true rfl, Nat.le_of_ble_eq_true rfl⟩) ⟨fun a U g mk q => by obtain ⟨q0, q1, qP, qK, qD⟩ := q; exact ⟨q0, q1, qP, qK.call, qD⟩, fun U hU hW => ⟨rfl, by rw [hU], by rw [hU]; exact hPc, hK.warm hW, hDc.weaken (fun _ _ _ _ => trivial)⟩⟩ rfl rfl hl.1 rfl (lv_room (Nat.le_of_ble_eq_true rfl)) dX9_stood_21 ⟨Nat.le_of_ble_eq_true rfl, Nat.le_of_ble_eq_true rfl⟩) hS (fun q _ h => hFc q h) hFc (fun r_5 _ t H1 locs ht hvm hw hB hz1 hk1 hS => ?_)
      obtain ⟨hP1, hD1⟩ := hB
      rw [ht] at hP1
      obtain ⟨hP, hD⟩ := va_join (wr := [oc h 9 [.ref h_s, .ref h_images, .int kept, .ref h_tape, .int typed, .ref h_draft, .int atv, .ref h_items, .ref h_moved, .ref h_sizes, .ref h_lanes, .ref h_less, .ref h_aside, .ref h_order], ai G h_s 161 sv]) (w1 := []) hP hD [] [0, 1] rfl rfl (by decide) (by decide) hk1 hFc hP1 hD1
      clear hPc hDc hFc hP1 hD1 hz1 hk1 hvm
      generalize H1 = H at hP hS ⊢
      have hP : va_P G.1 gCl [oc h 9 [.ref h_s, .ref h_images, .int kept, .ref h_tape, .int typed, .ref h_draft, .int atv, .ref h_items, .ref h_moved, .ref h_sizes, .ref h_lanes, .ref h_less, .ref h_aside, .ref h_order], ai G h_s 161 sv] H := hP
      have hD : va_D A [oc h 9 [.ref h_s, .ref h_images, .int kept, .ref h_tape, .int typed, .ref h_draft, .int atv, .ref h_items, .ref h_moved, .ref h_sizes, .ref h_lanes, .ref h_less, .ref h_aside, .ref h_order], ai G h_s 161 sv] := hD
      refine lv_if_ne (tgt := 29) hx hb dX9_stood_24 (by decide) (fun c_6 => ?_) (fun c_6 => ?_)
      · replace hw := hw.1 c_6
        refine lv_aload_n hx hb dX9_stood_29 rfl (lv_at hl 0 rfl) ?_
        refine lv_iload_n hx hb dX9_stood_30 rfl (lv_at hl 2 rfl) ?_
        refine lv_iload_n hx hb dX9_stood_31 rfl (lv_at hl 3 rfl) ?_
        have hPc := hP.sub (ws' := [oc h 9 [.ref h_s, .ref h_images, .int kept, .ref h_tape, .int typed, .ref h_draft, .int atv, .ref h_items, .ref h_moved, .ref h_sizes, .ref h_lanes, .ref h_less, .ref h_aside, .ref h_order], ai G h_s 161 sv]) [0, 1] rfl
        have hDc := hD.sub (ws' := [oc h 9 [.ref h_s, .ref h_images, .int kept, .ref h_tape, .int typed, .ref h_draft, .int atv, .ref h_items, .ref h_moved, .ref h_sizes, .ref h_lanes, .ref h_less, .ref h_aside, .ref h_order], ai G h_s 161 sv]) [0, 1] (by decide) rfl
        have hFc := va_free (wc := [oc h 9 [.ref h_s, .ref h_images, .int kept, .ref h_tape, .int typed, .ref h_draft, .int atv, .ref h_items, .ref h_moved, .ref h_sizes, .ref h_lanes, .ref h_less, .ref h_aside, .ref h_order], ai G h_s 161 sv]) hD hS hA [0, 1] rfl
        refine va_calli (va_runV (As := [.int p2, .int p3]) (rest := []) ⟨hx, hb, hml, hown, hts⟩ (mt_X9_isTaken l G h h_s h_images h_tape h_draft h_items h_moved h_sizes h_lanes h_less h_aside h_order H.size kept typed atv sv p2 p3 _ hw) (cwV 2 hts (lw_V q867 q869 qs26 q65 q870) rfl rfl rfl (by decide +kernel) ⟨Nat.le_of_ble_eq_true rfl, Nat.le_of_ble_eq_true rfl⟩) ⟨fun a U g mk q => by obtain ⟨q0, q1, qP, qK, qD⟩ := q; exact ⟨q0, q1, qP, qK.call, qD⟩, va_recv hK.1 hP (ci := 9) (q0 := 0) rfl rfl, fun U hU hW => ⟨rfl, by rw [hU], by rw [hU]; exact hPc, hK.warm hW, hDc.weaken (fun _ _ _ _ => trivial)⟩⟩ rfl rfl hl.1 rfl (lv_room (Nat.le_of_ble_eq_true rfl)) dX9_stood_32 ⟨Nat.le_of_ble_eq_true rfl, Nat.le_of_ble_eq_true rfl⟩) hS (fun q _ h => hFc q h) hFc (fun r_7 _ t H1 locs ht hvm hw hB hz1 hk1 hS => ?_)
        obtain ⟨hP1, hD1⟩ := hB
        rw [ht] at hP1
        obtain ⟨hP, hD⟩ := va_join (wr := []) (w1 := [oc h 9 [.ref h_s, .ref h_images, .int kept, .ref h_tape, .int typed, .ref h_draft, .int atv, .ref h_items, .ref h_moved, .ref h_sizes, .ref h_lanes, .ref h_less, .ref h_aside, .ref h_order], ai G h_s 161 sv]) hP hD [0, 1] [] rfl rfl (by decide) (by decide) hk1 hFc hP1 hD1
        clear hPc hDc hFc hP1 hD1 hz1 hk1 hvm
        generalize H1 = H at hP hS ⊢
        have hP : va_P G.1 gCl [oc h 9 [.ref h_s, .ref h_images, .int kept, .ref h_tape, .int typed, .ref h_draft, .int atv, .ref h_items, .ref h_moved, .ref h_sizes, .ref h_lanes, .ref h_less, .ref h_aside, .ref h_order], ai G h_s 161 sv] H := hP
        have hD : va_D A [oc h 9 [.ref h_s, .ref h_images, .int kept, .ref h_tape, .int typed, .ref h_draft, .int atv, .ref h_items, .ref h_moved, .ref h_sizes, .ref h_lanes, .ref h_less, .ref h_aside, .ref h_order], ai G h_s 161 sv] := hD
        refine lv_if_eq (tgt := 41) hx hb dX9_stood_35 (by decide) (fun c_8 => ?_) (fun c_8 => ?_)
        · replace hw := hw.1 c_8
          refine lv_aload_n hx hb dX9_stood_41 rfl (lv_at hl 0 rfl) ?_
          refine va_get (D := G.1) (ci := 9) (v := .ref h_s) (C := RX9) (T := TX9) (N := 14) hx hb hts in_X9 hown hK.1 hP 0 rfl rfl 0 (by decide) (hts _ q817) (fun _ h9 => h9) rfl dX9_stood_42 ?_
          refine lv_bipush (v := (22 : Int32)) hx hb dX9_stood_45 (by decide) ?_
          refine lv_iconst (v := (3 : Int32)) hx hb dX9_stood_47 (by decide) ?_
          refine lv_iload_n hx hb dX9_stood_48 rfl (lv_at hl 1 rfl) ?_
          refine lv_imul hx hb dX9_stood_49 ?_
          refine lv_iadd hx hb dX9_stood_50 ?_
          refine lv_iload_n hx hb dX9_stood_51 rfl (lv_at hl 2 rfl) ?_
          refine lv_iadd hx hb dX9_stood_52 ?_
          obtain ⟨i_9, hw⟩ := hw
          refine z_iald hx hb hK.1 hP 1 0 rfl rfl i_9 dX9_stood_53 (k := ((((22 : Int32) + ((3 : Int32) * p1)) + p2)).toNatClampNeg) rfl ?_
          refine lv_topi (fun v_10 ev_10 => ?_)
          replace hw := hw v_10 ev_10
          refine lv_istore (lv' := [(4, .int v_10), (0, .ref h), (1, .int p1), (2, .int p2), (3, .int p3)]) hx hb dX9_stood_54 hl (by decide) rfl (fun ls hl => ?_)
          refine lv_aload_n hx hb dX9_stood_56 rfl (lv_at hl 1 rfl) ?_
          refine va_get (D := G.1) (ci := 9) (v := .ref h_s) (C := RX9) (T := TX9) (N := 14) hx hb hts in_X9 hown hK.1 hP 0 rfl rfl 0 (by decide) (hts _ q817) (fun _ h9 => h9) rfl dX9_stood_57 ?_
          refine lv_bipush (v := (22 : Int32)) hx hb dX9_stood_60 (by decide) ?_
          refine lv_iconst (v := (3 : Int32)) hx hb dX9_stood_62 (by decide) ?_
          refine lv_iload_n hx hb dX9_stood_63 rfl (lv_at hl 2 rfl) ?_
          refine lv_imul hx hb dX9_stood_64 ?_
          refine lv_iadd hx hb dX9_stood_65 ?_
          refine lv_iload_n hx hb dX9_stood_66 rfl (lv_at hl 3 rfl) ?_
          refine lv_iadd hx hb dX9_stood_67 ?_
          refine lv_iload_n hx hb dX9_stood_68 rfl (lv_at hl 4 rfl) ?_
          obtain ⟨i_11, hw⟩ := hw
          refine z_iast hx hb hK.1 hP hD hS 1 0 rfl rfl i_11 dX9_stood_69 (k := ((((22 : Int32) + ((3 : Int32) * p1)) + p2)).toNatClampNeg) rfl (fun f_12 ef_12 H locs hP hD hS => ?_)
          replace hw := hw f_12 ef_12
          have hP : va_P G.1 gCl [oc h 9 [.ref h_s, .ref h_images, .int kept, .ref h_tape, .int typed, .ref h_draft, .int atv, .ref h_items, .ref h_moved, .ref h_sizes, .ref h_lanes, .ref h_less, .ref h_aside, .ref h_order], ai G h_s 161 f_12] H := hP
          have hD : va_D A [oc h 9 [.ref h_s, .ref h_images, .int kept, .ref h_tape, .int typed, .ref h_draft, .int atv, .ref h_items, .ref h_moved, .ref h_sizes, .ref h_lanes, .ref h_less, .ref h_aside, .ref h_order], ai G h_s 161 f_12] := hD
          refine lv_iload hx hb dX9_stood_70 (lv_at hl 0 rfl) ?_
          have hP9 := hP
          have hD9 := hD
          exact W.iret (v := v_10) hx hb hr (fun t ht hW => ⟨⟨v_10, f_12, rfl, hw, by rw [ht]; exact hP9, hD9⟩, hS.F ht⟩) hS.2.2 dX9_stood_72
        · replace hw := hw.2 c_8
          refine lv_bipush (v := (-2 : Int32)) hx hb dX9_stood_38 (by decide) ?_
          have hP9 := hP
          have hD9 := hD
          exact W.iret (v := (-2 : Int32)) hx hb hr (fun t ht hW => ⟨⟨(-2 : Int32), sv, rfl, hw, by rw [ht]; exact hP9, hD9⟩, hS.F ht⟩) hS.2.2 dX9_stood_40
      · replace hw := hw.2 c_6
        refine lv_iconst (v := (-1 : Int32)) hx hb dX9_stood_27 (by decide) ?_
        have hP9 := hP
        have hD9 := hD
        exact W.iret (v := (-1 : Int32)) hx hb hr (fun t ht hW => ⟨⟨(-1 : Int32), sv, rfl, hw, by rw [ht]; exact hP9, hD9⟩, hS.F ht⟩) hS.2.2 dX9_stood_28
/-! BattleBenchModel.seatOf(I)I -/
def wp_X9_seatOf_5 (sv : Nat → Int32) (p1 : Int32) (Q : Int32 → Prop)  : Nat → Int32 → Int32 → Prop
  | 0, _, _ => False
  | n + 1, x2, x3 =>
    ((((sv 1) ≤ x3) → Q x2) ∧ (¬ ((sv 1) ≤ x3) → (vp_in ((10 : Int32) + x3) 161 ∧ ((¬ ((sv (((10 : Int32) + x3)).toNatClampNeg) = p1) → wp_X9_seatOf_5 sv p1 Q  n x2 (x3 + (1 : Int32))) ∧ (((sv (((10 : Int32) + x3)).toNatClampNeg) = p1) → wp_X9_seatOf_5 sv p1 Q  n x3 (x3 + (1 : Int32)))))))
set_option maxHeartbeats 4000000 in
theorem wk_X9_seatOf_5 {p : Program} {l : Launch} {e : Env} {s : State} {m : MethodId} {below : List Frame} {meth : Method} {c : Code} {args : Array Value} {G : GT} {A : Nat → Prop} (h h_s h_images h_tape h_draft h_items h_moved h_sizes h_lanes h_less h_aside h_order : Nat) (kept : Int32) (typed : Int32) (atv : Int32) (sv : Nat → Int32) (p1 : Int32) (Q : Int32 → Prop)  (C : Cx p s m meth c cX9_seatOf 4 (some .int) RX9 args G A)  :
    ∀ (n : Nat), ∀  (x2 : Int32) (x3 : Int32) (H : Heap) (locs : List Loc), va_P G.1 gCl [oc h 9 [.ref h_s, .ref h_images, .int kept, .ref h_tape, .int typed, .ref h_draft, .int atv, .ref h_items, .ref h_moved, .ref h_sizes, .ref h_lanes, .ref h_less, .ref h_aside, .ref h_order], ai G h_s 161 sv] H → va_D A [oc h 9 [.ref h_s, .ref h_images, .int kept, .ref h_tape, .int typed, .ref h_draft, .int atv, .ref h_items, .ref h_moved, .ref h_sizes, .ref h_lanes, .ref h_less, .ref h_aside, .ref h_order], ai G h_s 161 sv] → va_S A s.heap H locs → ∀ (ls : Array Slot), lv_has ls 4 [(0, .ref h), (1, .int p1), (2, .int x2), (3, .int x3)] → wp_X9_seatOf_5 sv p1 Q  n x2 x3 → W p l e ({ frames := 0, cells := 0, slots := 0, locals := 0 } : Room) s m args below meth c H locs 0 0 (MQ below (va_Qi (fun (r : Int32) (u : Unit) => Q r ) (fun u t => va_P G.1 gCl [oc h 9 [.ref h_s, .ref h_images, .int kept, .ref h_tape, .int typed, .ref h_draft, .int atv, .ref h_items, .ref h_moved, .ref h_sizes, .ref h_lanes, .ref h_less, .ref h_aside, .ref h_order], ai G h_s 161 sv] t.heap ∧ va_D A [oc h 9 [.ref h_s, .ref h_images, .int kept, .ref h_tape, .int typed, .ref h_draft, .int atv, .ref h_items, .ref h_moved, .ref h_sizes, .ref h_lanes, .ref h_less, .ref h_aside, .ref h_order], ai G h_s 161 sv]) A) args s 0 0 A) (F0 m 5 ls []) := by
  have C9 := C
  obtain ⟨hx, hb, hr, hlocks, hml, hown, hts, hK, hA⟩ := C9
  intro n
  induction n with
  | zero => intro x2 x3 H locs hP hD hS ls hl hw; exact False.elim hw
  | succ n ih =>
    intro x2 x3 H locs hP hD hS ls hl hw
    unfold wp_X9_seatOf_5 at hw
    refine lv_iload_n hx hb dX9_seatOf_5 rfl (lv_at hl 3 rfl) ?_
    refine lv_aload_n hx hb dX9_seatOf_6 rfl (lv_at hl 0 rfl) ?_
    refine va_get (D := G.1) (ci := 9) (v := .ref h_s) (C := RX9) (T := TX9) (N := 14) hx hb hts in_X9 hown hK.1 hP 0 rfl rfl 0 (by decide) (hts _ q817) (fun _ h9 => h9) rfl dX9_seatOf_7 ?_
    refine lv_iconst (v := (1 : Int32)) hx hb dX9_seatOf_10 (by decide) ?_
    refine z_iald hx hb hK.1 hP 1 0 rfl rfl (vin_l (by decide +kernel)) dX9_seatOf_11 (k := 1) rfl ?_
    refine lv_icmp_ge (tgt := 40) hx hb dX9_seatOf_12 (by decide) (fun c_1 => ?_) (fun c_1 => ?_)
    · replace hw := hw.1 c_1
      refine lv_iload_n hx hb dX9_seatOf_40 rfl (lv_at hl 2 rfl) ?_
      have hP9 := hP
      have hD9 := hD
      exact W.iret (v := x2) hx hb hr (fun t ht hW => ⟨⟨x2, (), rfl, hw, by rw [ht]; exact hP9, hD9⟩, hS.F ht⟩) hS.2.2 dX9_seatOf_41
    · replace hw := hw.2 c_1
      refine lv_aload_n hx hb dX9_seatOf_15 rfl (lv_at hl 0 rfl) ?_
      refine va_get (D := G.1) (ci := 9) (v := .ref h_s) (C := RX9) (T := TX9) (N := 14) hx hb hts in_X9 hown hK.1 hP 0 rfl rfl 0 (by decide) (hts _ q817) (fun _ h9 => h9) rfl dX9_seatOf_16 ?_
      refine lv_bipush (v := (10 : Int32)) hx hb dX9_seatOf_19 (by decide) ?_
      refine lv_iload_n hx hb dX9_seatOf_21 rfl (lv_at hl 3 rfl) ?_
      refine lv_iadd hx hb dX9_seatOf_22 ?_
      obtain ⟨i_2, hw⟩ := hw
      refine z_iald hx hb hK.1 hP 1 0 rfl rfl i_2 dX9_seatOf_23 (k := (((10 : Int32) + x3)).toNatClampNeg) rfl ?_
      refine lv_iload_n hx hb dX9_seatOf_24 rfl (lv_at hl 1 rfl) ?_
      refine lv_icmp_ne (tgt := 32) hx hb dX9_seatOf_25 (by decide) (fun c_3 => ?_) (fun c_3 => ?_)
      · replace hw := hw.1 c_3
        refine lv_iload_n hx hb dX9_seatOf_32 rfl (lv_at hl 2 rfl) ?_
        refine lv_istore_n (lv' := [(2, .int x2), (0, .ref h), (1, .int p1), (3, .int x3)]) hx hb dX9_seatOf_33 rfl hl (by decide) rfl (fun ls hl => ?_)
        refine lv_iinc (v := (x3 + (1 : Int32))) (lv' := [(3, .int (x3 + (1 : Int32))), (2, .int x2), (0, .ref h), (1, .int p1)]) hx hb dX9_seatOf_34 hl (k := 3) rfl rfl (by decide) rfl (fun ls hl => ?_)
        refine lv_goto (tgt := 5) hx hb dX9_seatOf_37 (by decide) ?_
        exact ih x2 (x3 + (1 : Int32)) H locs hP hD hS ls (lv_sub hl [2, 3, 1, 0] rfl) hw
      · replace hw := hw.2 c_3
        refine lv_iload_n hx hb dX9_seatOf_28 rfl (lv_at hl 3 rfl) ?_
        refine lv_goto (tgt := 33) hx hb dX9_seatOf_29 (by decide) ?_
        refine lv_istore_n (lv' := [(2, .int x3), (0, .ref h), (1, .int p1), (3, .int x3)]) hx hb dX9_seatOf_33 rfl hl (by decide) rfl (fun ls hl => ?_)
        refine lv_iinc (v := (x3 + (1 : Int32))) (lv' := [(3, .int (x3 + (1 : Int32))), (2, .int x3), (0, .ref h), (1, .int p1)]) hx hb dX9_seatOf_34 hl (k := 3) rfl rfl (by decide) rfl (fun ls hl => ?_)
        refine lv_goto (tgt := 5) hx hb dX9_seatOf_37 (by decide) ?_
        exact ih x3 (x3 + (1 : Int32)) H locs hP hD hS ls (lv_sub hl [2, 3, 1, 0] rfl) hw
def wp_X9_seatOf (sv : Nat → Int32) (p1 : Int32) (Q : Int32 → Prop) : Prop :=
  (∃ j_ : Nat, wp_X9_seatOf_5 sv p1 Q  j_ (-4 : Int32) (0 : Int32))
set_option maxHeartbeats 4000000 in
theorem mt_X9_seatOf (l : Launch) (G : GT) (h h_s h_images h_tape h_draft h_items h_moved h_sizes h_lanes h_less h_aside h_order : Nat) (sz : Nat) (kept : Int32) (typed : Int32) (atv : Int32) (sv : Nat → Int32) (p1 : Int32) (Q : Int32 → Prop) (hw : wp_X9_seatOf sv p1 Q) : Met l yX9_seatOf (ws_ yX9_seatOf cX9_seatOf 4 (some .int)) ({ frames := 0, cells := 0, slots := 0, locals := 0 } : Room) (va_Pc [.ref h, .int p1] (fun U => U.heap.size = sz ∧ va_P G.1 gCl [oc h 9 [.ref h_s, .ref h_images, .int kept, .ref h_tape, .int typed, .ref h_draft, .int atv, .ref h_items, .ref h_moved, .ref h_sizes, .ref h_lanes, .ref h_less, .ref h_aside, .ref h_order], ai G h_s 161 sv] U.heap ∧ gK G U ∧ va_D (fun _ => True) [oc h 9 [.ref h_s, .ref h_images, .int kept, .ref h_tape, .int typed, .ref h_draft, .int atv, .ref h_items, .ref h_moved, .ref h_sizes, .ref h_lanes, .ref h_less, .ref h_aside, .ref h_order], ai G h_s 161 sv])) ((fun A => (va_Qi (fun (r : Int32) (u : Unit) => Q r ) (fun u t => va_P G.1 gCl [oc h 9 [.ref h_s, .ref h_images, .int kept, .ref h_tape, .int typed, .ref h_draft, .int atv, .ref h_items, .ref h_moved, .ref h_sizes, .ref h_lanes, .ref h_less, .ref h_aside, .ref h_order], ai G h_s 161 sv] t.heap ∧ va_D A [oc h 9 [.ref h_s, .ref h_images, .int kept, .ref h_tape, .int typed, .ref h_draft, .int atv, .ref h_items, .ref h_moved, .ref h_sizes, .ref h_lanes, .ref h_less, .ref h_aside, .ref h_order], ai G h_s 161 sv]) A)) (va_A [oc h 9 [.ref h_s, .ref h_images, .int kept, .ref h_tape, .int typed, .ref h_draft, .int atv, .ref h_items, .ref h_moved, .ref h_sizes, .ref h_lanes, .ref h_less, .ref h_aside, .ref h_order], ai G h_s 161 sv] sz)) 0 0 (va_A [oc h 9 [.ref h_s, .ref h_images, .int kept, .ref h_tape, .int typed, .ref h_draft, .int atv, .ref h_items, .ref h_moved, .ref h_sizes, .ref h_lanes, .ref h_less, .ref h_aside, .ref h_order], ai G h_s 161 sv] sz) := by
  refine Met.ofW (cc := cX9_seatOf) (maxL := 4) (ret := (some .int)) (by decide) rfl ?_
  intro p e s m args below meth c s₁ B hml hv
  obtain ⟨rfl, hsz, hP, hK, hD0⟩ := hv
  have hx := B.exec
  have hb := B.bytes
  have hr := B.returns
  have hts := atoms_spec (ws := (ws_ yX9_seatOf cX9_seatOf 4 (some .int))) B.pre
  have hts : ∀ w ∈ lw_all, w.before _ s = true := fun w h => hts w (List.mem_cons_of_mem _ h)
  have hown : s.vm.findClass RX9 = some m.cls := findClass_of_methodNamed B.named
  have hlocks := B.notSynchronized
  subst hsz
  have hD := hD0.self (sz := s.heap.size)
  generalize hAe : va_A [oc h 9 [.ref h_s, .ref h_images, .int kept, .ref h_tape, .int typed, .ref h_draft, .int atv, .ref h_items, .ref h_moved, .ref h_sizes, .ref h_lanes, .ref h_less, .ref h_aside, .ref h_order], ai G h_s 161 sv] s.heap.size = A at hD ⊢
  have hA : ∀ q : Nat, s.heap.size ≤ q → A q := fun q h => by rw [← hAe]; exact Or.inr h
  have hS : va_S A s.heap s.heap [] := va_S.rf
  have C : Cx p s m meth c cX9_seatOf 4 (some .int) RX9 ([.ref h, .int p1] : List Value).toArray G A := ⟨hx, hb, hr, hlocks, hml, hown, hts, hK, hA⟩
  have hl := lv_entry ([.ref h, .int p1]) (n := 4) (Nat.le_of_ble_eq_true rfl)
  rw [lg_entry_eq]
  generalize (lg_sl ([.ref h, .int p1]) ++ List.replicate (4 - (lg_sl ([.ref h, .int p1])).length) Slot.unset).toArray = ls at hl ⊢
  have hl : lv_has ls 4 [(0, .ref h), (1, .int p1)] := hl
  unfold wp_X9_seatOf at hw
  refine lv_bipush (v := (-4 : Int32)) hx hb dX9_seatOf_0 (by decide) ?_
  refine lv_istore_n (lv' := [(2, .int (-4 : Int32)), (0, .ref h), (1, .int p1)]) hx hb dX9_seatOf_2 rfl hl (by decide) rfl (fun ls hl => ?_)
  refine lv_iconst (v := (0 : Int32)) hx hb dX9_seatOf_3 (by decide) ?_
  refine lv_istore_n (lv' := [(3, .int (0 : Int32)), (2, .int (-4 : Int32)), (0, .ref h), (1, .int p1)]) hx hb dX9_seatOf_4 rfl hl (by decide) rfl (fun ls hl => ?_)
  obtain ⟨j_, hw⟩ := hw
  exact wk_X9_seatOf_5 h h_s h_images h_tape h_draft h_items h_moved h_sizes h_lanes h_less h_aside h_order kept typed atv sv p1  Q  C  j_ (-4 : Int32) (0 : Int32) s.heap [] hP hD hS ls (lv_sub hl [2, 3, 1, 0] rfl) hw
/-! BattleBenchModel.stoodBy(II)Z -/
def wp_X9_stoodBy_49 (sv : Nat → Int32) (p1 : Int32) (p2 : Int32) (Q : Int32 → Prop) (K5 : Int32 → Int32 → Prop) : Nat → Int32 → Int32 → Int32 → Int32 → Int32 → Int32 → Prop
  | 0, _, _, _, _, _, _ => False
  | n + 1, x3, x4, x5, x6, x7, x8 =>
    ((((sv 0) ≤ x8) → ((¬ (x3 = 0) → K5 (1 : Int32) (x4 + (1 : Int32))) ∧ ((x3 = 0) → (((x7 = 0) → K5 (0 : Int32) (x4 + (1 : Int32))) ∧ (¬ (x7 = 0) → K5 (1 : Int32) (x4 + (1 : Int32))))))) ∧ (¬ ((sv 0) ≤ x8) → (vp_in (((22 : Int32) + ((3 : Int32) * x8)) + x4) 161 ∧ (∀ v_5 : Int32, v_5 = (sv ((((22 : Int32) + ((3 : Int32) * x8)) + x4)).toNatClampNeg) → (((x7 = 0) → wp_X9_stoodBy_49 sv p1 p2 Q K5 n x3 x4 x5 x6 (0 : Int32) (x8 + (1 : Int32))) ∧ (¬ (x7 = 0) → (((v_5 ≤ x5) → (((v_5 ≤ x6) → wp_X9_stoodBy_49 sv p1 p2 Q K5 n x3 x4 x5 x6 (1 : Int32) (x8 + (1 : Int32))) ∧ (¬ (v_5 ≤ x6) → (((v_5 < x5) → wp_X9_stoodBy_49 sv p1 p2 Q K5 n x3 x4 x5 x6 (0 : Int32) (x8 + (1 : Int32))) ∧ (¬ (v_5 < x5) → wp_X9_stoodBy_49 sv p1 p2 Q K5 n x3 x4 x5 x6 (1 : Int32) (x8 + (1 : Int32))))))) ∧ (¬ (v_5 ≤ x5) → (((v_5 < x6) → wp_X9_stoodBy_49 sv p1 p2 Q K5 n x3 x4 x5 x6 (0 : Int32) (x8 + (1 : Int32))) ∧ (¬ (v_5 < x6) → (((v_5 ≤ x6) → wp_X9_stoodBy_49 sv p1 p2 Q K5 n x3 x4 x5 x6 (1 : Int32) (x8 + (1 : Int32))) ∧ (¬ (v_5 ≤ x6) → (((v_5 < x5) → wp_X9_stoodBy_49 sv p1 p2 Q K5 n x3 x4 x5 x6 (0 : Int32) (x8 + (1 : Int32))) ∧ (¬ (v_5 < x5) → wp_X9_stoodBy_49 sv p1 p2 Q K5 n x3 x4 x5 x6 (1 : Int32) (x8 + (1 : Int32))))))))))))))))
set_option maxHeartbeats 4000000 in
theorem wk_X9_stoodBy_49 {p : Program} {l : Launch} {e : Env} {s : State} {m : MethodId} {below : List Frame} {meth : Method} {c : Code} {args : Array Value} {G : GT} {A : Nat → Prop} (h h_s h_images h_tape h_draft h_items h_moved h_sizes h_lanes h_less h_aside h_order : Nat) (kept : Int32) (typed : Int32) (atv : Int32) (sv : Nat → Int32) (p1 : Int32) (p2 : Int32) (Q : Int32 → Prop) (K5 : Int32 → Int32 → Prop) (C : Cx p s m meth c cX9_stoodBy 10 (some .boolean) RX9 args G A) (hK5 : ∀  (x3 : Int32) (x4 : Int32) (H : Heap) (locs : List Loc), va_P G.1 gCl [oc h 9 [.ref h_s, .ref h_images, .int kept, .ref h_tape, .int typed, .ref h_draft, .int atv, .ref h_items, .ref h_moved, .ref h_sizes, .ref h_lanes, .ref h_less, .ref h_aside, .ref h_order], ai G h_s 161 sv] H → va_D A [oc h 9 [.ref h_s, .ref h_images, .int kept, .ref h_tape, .int typed, .ref h_draft, .int atv, .ref h_items, .ref h_moved, .ref h_sizes, .ref h_lanes, .ref h_less, .ref h_aside, .ref h_order], ai G h_s 161 sv] → va_S A s.heap H locs → ∀ (ls : Array Slot), lv_has ls 10 [(0, .ref h), (1, .int p1), (2, .int p2), (3, .int x3), (4, .int x4)] → K5 x3 x4 → W p l e ({ frames := 0, cells := 0, slots := 0, locals := 0 } : Room) s m args below meth c H locs 0 0 (MQ below (va_Qi (fun (r : Int32) (u : Unit) => Q r ) (fun u t => va_P G.1 gCl [oc h 9 [.ref h_s, .ref h_images, .int kept, .ref h_tape, .int typed, .ref h_draft, .int atv, .ref h_items, .ref h_moved, .ref h_sizes, .ref h_lanes, .ref h_less, .ref h_aside, .ref h_order], ai G h_s 161 sv] t.heap ∧ va_D A [oc h 9 [.ref h_s, .ref h_images, .int kept, .ref h_tape, .int typed, .ref h_draft, .int atv, .ref h_items, .ref h_moved, .ref h_sizes, .ref h_lanes, .ref h_less, .ref h_aside, .ref h_order], ai G h_s 161 sv]) A) args s 0 0 A) (F0 m 5 ls [])) :
    ∀ (n : Nat), ∀  (x3 : Int32) (x4 : Int32) (x5 : Int32) (x6 : Int32) (x7 : Int32) (x8 : Int32) (H : Heap) (locs : List Loc), va_P G.1 gCl [oc h 9 [.ref h_s, .ref h_images, .int kept, .ref h_tape, .int typed, .ref h_draft, .int atv, .ref h_items, .ref h_moved, .ref h_sizes, .ref h_lanes, .ref h_less, .ref h_aside, .ref h_order], ai G h_s 161 sv] H → va_D A [oc h 9 [.ref h_s, .ref h_images, .int kept, .ref h_tape, .int typed, .ref h_draft, .int atv, .ref h_items, .ref h_moved, .ref h_sizes, .ref h_lanes, .ref h_less, .ref h_aside, .ref h_order], ai G h_s 161 sv] → va_S A s.heap H locs → ∀ (ls : Array Slot), lv_has ls 10 [(0, .ref h), (1, .int p1), (2, .int p2), (3, .int x3), (4, .int x4), (5, .int x5), (6, .int x6), (7, .int x7), (8, .int x8)] → wp_X9_stoodBy_49 sv p1 p2 Q K5 n x3 x4 x5 x6 x7 x8 → W p l e ({ frames := 0, cells := 0, slots := 0, locals := 0 } : Room) s m args below meth c H locs 0 0 (MQ below (va_Qi (fun (r : Int32) (u : Unit) => Q r ) (fun u t => va_P G.1 gCl [oc h 9 [.ref h_s, .ref h_images, .int kept, .ref h_tape, .int typed, .ref h_draft, .int atv, .ref h_items, .ref h_moved, .ref h_sizes, .ref h_lanes, .ref h_less, .ref h_aside, .ref h_order], ai G h_s 161 sv] t.heap ∧ va_D A [oc h 9 [.ref h_s, .ref h_images, .int kept, .ref h_tape, .int typed, .ref h_draft, .int atv, .ref h_items, .ref h_moved, .ref h_sizes, .ref h_lanes, .ref h_less, .ref h_aside, .ref h_order], ai G h_s 161 sv]) A) args s 0 0 A) (F0 m 49 ls []) := by
  have C9 := C
  obtain ⟨hx, hb, hr, hlocks, hml, hown, hts, hK, hA⟩ := C9
  intro n
  induction n with
  | zero => intro x3 x4 x5 x6 x7 x8 H locs hP hD hS ls hl hw; exact False.elim hw
  | succ n ih =>
    intro x3 x4 x5 x6 x7 x8 H locs hP hD hS ls hl hw
    unfold wp_X9_stoodBy_49 at hw
    refine lv_iload hx hb dX9_stoodBy_49 (lv_at hl 8 rfl) ?_
    refine lv_aload_n hx hb dX9_stoodBy_51 rfl (lv_at hl 0 rfl) ?_
    refine va_get (D := G.1) (ci := 9) (v := .ref h_s) (C := RX9) (T := TX9) (N := 14) hx hb hts in_X9 hown hK.1 hP 0 rfl rfl 0 (by decide) (hts _ q817) (fun _ h9 => h9) rfl dX9_stoodBy_52 ?_
    refine lv_iconst (v := (0 : Int32)) hx hb dX9_stoodBy_55 (by decide) ?_
    refine z_iald hx hb hK.1 hP 1 0 rfl rfl (vin_l (by decide +kernel)) dX9_stoodBy_56 (k := 0) rfl ?_
    refine lv_icmp_ge (tgt := 123) hx hb dX9_stoodBy_57 (by decide) (fun c_1 => ?_) (fun c_1 => ?_)
    · replace hw := hw.1 c_1
      refine lv_iload_n hx hb dX9_stoodBy_123 rfl (lv_at hl 3 rfl) ?_
      refine lv_if_ne (tgt := 132) hx hb dX9_stoodBy_124 (by decide) (fun c_2 => ?_) (fun c_2 => ?_)
      · replace hw := hw.1 c_2
        refine lv_iconst (v := (1 : Int32)) hx hb dX9_stoodBy_132 (by decide) ?_
        refine lv_goto (tgt := 137) hx hb dX9_stoodBy_133 (by decide) ?_
        refine lv_istore_n (lv' := [(3, .int (1 : Int32)), (0, .ref h), (1, .int p1), (2, .int p2), (4, .int x4), (5, .int x5), (6, .int x6), (7, .int x7), (8, .int x8)]) hx hb dX9_stoodBy_137 rfl hl (by decide) rfl (fun ls hl => ?_)
        refine lv_iinc (v := (x4 + (1 : Int32))) (lv' := [(4, .int (x4 + (1 : Int32))), (3, .int (1 : Int32)), (0, .ref h), (1, .int p1), (2, .int p2), (5, .int x5), (6, .int x6), (7, .int x7), (8, .int x8)]) hx hb dX9_stoodBy_138 hl (k := 4) rfl rfl (by decide) rfl (fun ls hl => ?_)
        refine lv_goto (tgt := 5) hx hb dX9_stoodBy_141 (by decide) ?_
        exact hK5 (1 : Int32) (x4 + (1 : Int32)) H locs hP hD hS ls (lv_sub hl [2, 3, 4, 1, 0] rfl) hw
      · replace hw := hw.2 c_2
        refine lv_iload hx hb dX9_stoodBy_127 (lv_at hl 7 rfl) ?_
        refine lv_if_eq (tgt := 136) hx hb dX9_stoodBy_129 (by decide) (fun c_3 => ?_) (fun c_3 => ?_)
        · replace hw := hw.1 c_3
          refine lv_iconst (v := (0 : Int32)) hx hb dX9_stoodBy_136 (by decide) ?_
          refine lv_istore_n (lv' := [(3, .int (0 : Int32)), (0, .ref h), (1, .int p1), (2, .int p2), (4, .int x4), (5, .int x5), (6, .int x6), (7, .int x7), (8, .int x8)]) hx hb dX9_stoodBy_137 rfl hl (by decide) rfl (fun ls hl => ?_)
          refine lv_iinc (v := (x4 + (1 : Int32))) (lv' := [(4, .int (x4 + (1 : Int32))), (3, .int (0 : Int32)), (0, .ref h), (1, .int p1), (2, .int p2), (5, .int x5), (6, .int x6), (7, .int x7), (8, .int x8)]) hx hb dX9_stoodBy_138 hl (k := 4) rfl rfl (by decide) rfl (fun ls hl => ?_)
          refine lv_goto (tgt := 5) hx hb dX9_stoodBy_141 (by decide) ?_
          exact hK5 (0 : Int32) (x4 + (1 : Int32)) H locs hP hD hS ls (lv_sub hl [2, 3, 4, 1, 0] rfl) hw
        · replace hw := hw.2 c_3
          refine lv_iconst (v := (1 : Int32)) hx hb dX9_stoodBy_132 (by decide) ?_
          refine lv_goto (tgt := 137) hx hb dX9_stoodBy_133 (by decide) ?_
          refine lv_istore_n (lv' := [(3, .int (1 : Int32)), (0, .ref h), (1, .int p1), (2, .int p2), (4, .int x4), (5, .int x5), (6, .int x6), (7, .int x7), (8, .int x8)]) hx hb dX9_stoodBy_137 rfl hl (by decide) rfl (fun ls hl => ?_)
          refine lv_iinc (v := (x4 + (1 : Int32))) (lv' := [(4, .int (x4 + (1 : Int32))), (3, .int (1 : Int32)), (0, .ref h), (1, .int p1), (2, .int p2), (5, .int x5), (6, .int x6), (7, .int x7), (8, .int x8)]) hx hb dX9_stoodBy_138 hl (k := 4) rfl rfl (by decide) rfl (fun ls hl => ?_)
          refine lv_goto (tgt := 5) hx hb dX9_stoodBy_141 (by decide) ?_
          exact hK5 (1 : Int32) (x4 + (1 : Int32)) H locs hP hD hS ls (lv_sub hl [2, 3, 4, 1, 0] rfl) hw
    · replace hw := hw.2 c_1
      refine lv_aload_n hx hb dX9_stoodBy_60 rfl (lv_at hl 0 rfl) ?_
      refine va_get (D := G.1) (ci := 9) (v := .ref h_s) (C := RX9) (T := TX9) (N := 14) hx hb hts in_X9 hown hK.1 hP 0 rfl rfl 0 (by decide) (hts _ q817) (fun _ h9 => h9) rfl dX9_stoodBy_61 ?_
      refine lv_bipush (v := (22 : Int32)) hx hb dX9_stoodBy_64 (by decide) ?_
      refine lv_iconst (v := (3 : Int32)) hx hb dX9_stoodBy_66 (by decide) ?_
      refine lv_iload hx hb dX9_stoodBy_67 (lv_at hl 8 rfl) ?_
      refine lv_imul hx hb dX9_stoodBy_69 ?_
      refine lv_iadd hx hb dX9_stoodBy_70 ?_
      refine lv_iload hx hb dX9_stoodBy_71 (lv_at hl 4 rfl) ?_
      refine lv_iadd hx hb dX9_stoodBy_73 ?_
      obtain ⟨i_4, hw⟩ := hw
      refine z_iald hx hb hK.1 hP 1 0 rfl rfl i_4 dX9_stoodBy_74 (k := ((((22 : Int32) + ((3 : Int32) * x8)) + x4)).toNatClampNeg) rfl ?_
      refine lv_topi (fun v_5 ev_5 => ?_)
      replace hw := hw v_5 ev_5
      refine lv_istore (lv' := [(9, .int v_5), (0, .ref h), (1, .int p1), (2, .int p2), (3, .int x3), (4, .int x4), (5, .int x5), (6, .int x6), (7, .int x7), (8, .int x8)]) hx hb dX9_stoodBy_75 hl (by decide) rfl (fun ls hl => ?_)
      refine lv_iload hx hb dX9_stoodBy_77 (lv_at hl 8 rfl) ?_
      refine lv_if_eq (tgt := 114) hx hb dX9_stoodBy_79 (by decide) (fun c_6 => ?_) (fun c_6 => ?_)
      · replace hw := hw.1 c_6
        refine lv_iconst (v := (0 : Int32)) hx hb dX9_stoodBy_114 (by decide) ?_
        refine lv_istore (lv' := [(7, .int (0 : Int32)), (9, .int v_5), (0, .ref h), (1, .int p1), (2, .int p2), (3, .int x3), (4, .int x4), (5, .int x5), (6, .int x6), (8, .int x8)]) hx hb dX9_stoodBy_115 hl (by decide) rfl (fun ls hl => ?_)
        refine lv_iinc (v := (x8 + (1 : Int32))) (lv' := [(8, .int (x8 + (1 : Int32))), (7, .int (0 : Int32)), (9, .int v_5), (0, .ref h), (1, .int p1), (2, .int p2), (3, .int x3), (4, .int x4), (5, .int x5), (6, .int x6)]) hx hb dX9_stoodBy_117 hl (k := 9) rfl rfl (by decide) rfl (fun ls hl => ?_)
        refine lv_goto (tgt := 49) hx hb dX9_stoodBy_120 (by decide) ?_
        exact ih x3 x4 x5 x6 (0 : Int32) (x8 + (1 : Int32)) H locs hP hD hS ls (lv_sub hl [3, 4, 5, 6, 7, 8, 9, 1, 0] rfl) hw
      · replace hw := hw.2 c_6
        refine lv_iload hx hb dX9_stoodBy_82 (lv_at hl 0 rfl) ?_
        refine lv_iload hx hb dX9_stoodBy_84 (lv_at hl 6 rfl) ?_
        refine lv_icmp_le (tgt := 96) hx hb dX9_stoodBy_86 (by decide) (fun c_7 => ?_) (fun c_7 => ?_)
        · replace hw := hw.1 c_7
          refine lv_iload hx hb dX9_stoodBy_96 (lv_at hl 0 rfl) ?_
          refine lv_iload hx hb dX9_stoodBy_98 (lv_at hl 7 rfl) ?_
          refine lv_icmp_le (tgt := 110) hx hb dX9_stoodBy_100 (by decide) (fun c_8 => ?_) (fun c_8 => ?_)
          · replace hw := hw.1 c_8
            refine lv_iconst (v := (1 : Int32)) hx hb dX9_stoodBy_110 (by decide) ?_
            refine lv_goto (tgt := 115) hx hb dX9_stoodBy_111 (by decide) ?_
            refine lv_istore (lv' := [(7, .int (1 : Int32)), (9, .int v_5), (0, .ref h), (1, .int p1), (2, .int p2), (3, .int x3), (4, .int x4), (5, .int x5), (6, .int x6), (8, .int x8)]) hx hb dX9_stoodBy_115 hl (by decide) rfl (fun ls hl => ?_)
            refine lv_iinc (v := (x8 + (1 : Int32))) (lv' := [(8, .int (x8 + (1 : Int32))), (7, .int (1 : Int32)), (9, .int v_5), (0, .ref h), (1, .int p1), (2, .int p2), (3, .int x3), (4, .int x4), (5, .int x5), (6, .int x6)]) hx hb dX9_stoodBy_117 hl (k := 9) rfl rfl (by decide) rfl (fun ls hl => ?_)
            refine lv_goto (tgt := 49) hx hb dX9_stoodBy_120 (by decide) ?_
            exact ih x3 x4 x5 x6 (1 : Int32) (x8 + (1 : Int32)) H locs hP hD hS ls (lv_sub hl [3, 4, 5, 6, 7, 8, 9, 1, 0] rfl) hw
          · replace hw := hw.2 c_8
            refine lv_iload hx hb dX9_stoodBy_103 (lv_at hl 0 rfl) ?_
            refine lv_iload hx hb dX9_stoodBy_105 (lv_at hl 6 rfl) ?_
            refine lv_icmp_lt (tgt := 114) hx hb dX9_stoodBy_107 (by decide) (fun c_9 => ?_) (fun c_9 => ?_)
            · replace hw := hw.1 c_9
              refine lv_iconst (v := (0 : Int32)) hx hb dX9_stoodBy_114 (by decide) ?_
              refine lv_istore (lv' := [(7, .int (0 : Int32)), (9, .int v_5), (0, .ref h), (1, .int p1), (2, .int p2), (3, .int x3), (4, .int x4), (5, .int x5), (6, .int x6), (8, .int x8)]) hx hb dX9_stoodBy_115 hl (by decide) rfl (fun ls hl => ?_)
              refine lv_iinc (v := (x8 + (1 : Int32))) (lv' := [(8, .int (x8 + (1 : Int32))), (7, .int (0 : Int32)), (9, .int v_5), (0, .ref h), (1, .int p1), (2, .int p2), (3, .int x3), (4, .int x4), (5, .int x5), (6, .int x6)]) hx hb dX9_stoodBy_117 hl (k := 9) rfl rfl (by decide) rfl (fun ls hl => ?_)
              refine lv_goto (tgt := 49) hx hb dX9_stoodBy_120 (by decide) ?_
              exact ih x3 x4 x5 x6 (0 : Int32) (x8 + (1 : Int32)) H locs hP hD hS ls (lv_sub hl [3, 4, 5, 6, 7, 8, 9, 1, 0] rfl) hw
            · replace hw := hw.2 c_9
              refine lv_iconst (v := (1 : Int32)) hx hb dX9_stoodBy_110 (by decide) ?_
              refine lv_goto (tgt := 115) hx hb dX9_stoodBy_111 (by decide) ?_
              refine lv_istore (lv' := [(7, .int (1 : Int32)), (9, .int v_5), (0, .ref h), (1, .int p1), (2, .int p2), (3, .int x3), (4, .int x4), (5, .int x5), (6, .int x6), (8, .int x8)]) hx hb dX9_stoodBy_115 hl (by decide) rfl (fun ls hl => ?_)
              refine lv_iinc (v := (x8 + (1 : Int32))) (lv' := [(8, .int (x8 + (1 : Int32))), (7, .int (1 : Int32)), (9, .int v_5), (0, .ref h), (1, .int p1), (2, .int p2), (3, .int x3), (4, .int x4), (5, .int x5), (6, .int x6)]) hx hb dX9_stoodBy_117 hl (k := 9) rfl rfl (by decide) rfl (fun ls hl => ?_)
              refine lv_goto (tgt := 49) hx hb dX9_stoodBy_120 (by decide) ?_
              exact ih x3 x4 x5 x6 (1 : Int32) (x8 + (1 : Int32)) H locs hP hD hS ls (lv_sub hl [3, 4, 5, 6, 7, 8, 9, 1, 0] rfl) hw
        · replace hw := hw.2 c_7
          refine lv_iload hx hb dX9_stoodBy_89 (lv_at hl 0 rfl) ?_
          refine lv_iload hx hb dX9_stoodBy_91 (lv_at hl 7 rfl) ?_
          refine lv_icmp_lt (tgt := 114) hx hb dX9_stoodBy_93 (by decide) (fun c_10 => ?_) (fun c_10 => ?_)
          · replace hw := hw.1 c_10
            refine lv_iconst (v := (0 : Int32)) hx hb dX9_stoodBy_114 (by decide) ?_
            refine lv_istore (lv' := [(7, .int (0 : Int32)), (9, .int v_5), (0, .ref h), (1, .int p1), (2, .int p2), (3, .int x3), (4, .int x4), (5, .int x5), (6, .int x6), (8, .int x8)]) hx hb dX9_stoodBy_115 hl (by decide) rfl (fun ls hl => ?_)
            refine lv_iinc (v := (x8 + (1 : Int32))) (lv' := [(8, .int (x8 + (1 : Int32))), (7, .int (0 : Int32)), (9, .int v_5), (0, .ref h), (1, .int p1), (2, .int p2), (3, .int x3), (4, .int x4), (5, .int x5), (6, .int x6)]) hx hb dX9_stoodBy_117 hl (k := 9) rfl rfl (by decide) rfl (fun ls hl => ?_)
            refine lv_goto (tgt := 49) hx hb dX9_stoodBy_120 (by decide) ?_
            exact ih x3 x4 x5 x6 (0 : Int32) (x8 + (1 : Int32)) H locs hP hD hS ls (lv_sub hl [3, 4, 5, 6, 7, 8, 9, 1, 0] rfl) hw
          · replace hw := hw.2 c_10
            refine lv_iload hx hb dX9_stoodBy_96 (lv_at hl 0 rfl) ?_
            refine lv_iload hx hb dX9_stoodBy_98 (lv_at hl 7 rfl) ?_
            refine lv_icmp_le (tgt := 110) hx hb dX9_stoodBy_100 (by decide) (fun c_11 => ?_) (fun c_11 => ?_)
            · replace hw := hw.1 c_11
              refine lv_iconst (v := (1 : Int32)) hx hb dX9_stoodBy_110 (by decide) ?_
              refine lv_goto (tgt := 115) hx hb dX9_stoodBy_111 (by decide) ?_
              refine lv_istore (lv' := [(7, .int (1 : Int32)), (9, .int v_5), (0, .ref h), (1, .int p1), (2, .int p2), (3, .int x3), (4, .int x4), (5, .int x5), (6, .int x6), (8, .int x8)]) hx hb dX9_stoodBy_115 hl (by decide) rfl (fun ls hl => ?_)
              refine lv_iinc (v := (x8 + (1 : Int32))) (lv' := [(8, .int (x8 + (1 : Int32))), (7, .int (1 : Int32)), (9, .int v_5), (0, .ref h), (1, .int p1), (2, .int p2), (3, .int x3), (4, .int x4), (5, .int x5), (6, .int x6)]) hx hb dX9_stoodBy_117 hl (k := 9) rfl rfl (by decide) rfl (fun ls hl => ?_)
              refine lv_goto (tgt := 49) hx hb dX9_stoodBy_120 (by decide) ?_
              exact ih x3 x4 x5 x6 (1 : Int32) (x8 + (1 : Int32)) H locs hP hD hS ls (lv_sub hl [3, 4, 5, 6, 7, 8, 9, 1, 0] rfl) hw
            · replace hw := hw.2 c_11
              refine lv_iload hx hb dX9_stoodBy_103 (lv_at hl 0 rfl) ?_
              refine lv_iload hx hb dX9_stoodBy_105 (lv_at hl 6 rfl) ?_
              refine lv_icmp_lt (tgt := 114) hx hb dX9_stoodBy_107 (by decide) (fun c_12 => ?_) (fun c_12 => ?_)
              · replace hw := hw.1 c_12
                refine lv_iconst (v := (0 : Int32)) hx hb dX9_stoodBy_114 (by decide) ?_
                refine lv_istore (lv' := [(7, .int (0 : Int32)), (9, .int v_5), (0, .ref h), (1, .int p1), (2, .int p2), (3, .int x3), (4, .int x4), (5, .int x5), (6, .int x6), (8, .int x8)]) hx hb dX9_stoodBy_115 hl (by decide) rfl (fun ls hl => ?_)
                refine lv_iinc (v := (x8 + (1 : Int32))) (lv' := [(8, .int (x8 + (1 : Int32))), (7, .int (0 : Int32)), (9, .int v_5), (0, .ref h), (1, .int p1), (2, .int p2), (3, .int x3), (4, .int x4), (5, .int x5), (6, .int x6)]) hx hb dX9_stoodBy_117 hl (k := 9) rfl rfl (by decide) rfl (fun ls hl => ?_)
                refine lv_goto (tgt := 49) hx hb dX9_stoodBy_120 (by decide) ?_
                exact ih x3 x4 x5 x6 (0 : Int32) (x8 + (1 : Int32)) H locs hP hD hS ls (lv_sub hl [3, 4, 5, 6, 7, 8, 9, 1, 0] rfl) hw
              · replace hw := hw.2 c_12
                refine lv_iconst (v := (1 : Int32)) hx hb dX9_stoodBy_110 (by decide) ?_
                refine lv_goto (tgt := 115) hx hb dX9_stoodBy_111 (by decide) ?_
                refine lv_istore (lv' := [(7, .int (1 : Int32)), (9, .int v_5), (0, .ref h), (1, .int p1), (2, .int p2), (3, .int x3), (4, .int x4), (5, .int x5), (6, .int x6), (8, .int x8)]) hx hb dX9_stoodBy_115 hl (by decide) rfl (fun ls hl => ?_)
                refine lv_iinc (v := (x8 + (1 : Int32))) (lv' := [(8, .int (x8 + (1 : Int32))), (7, .int (1 : Int32)), (9, .int v_5), (0, .ref h), (1, .int p1), (2, .int p2), (3, .int x3), (4, .int x4), (5, .int x5), (6, .int x6)]) hx hb dX9_stoodBy_117 hl (k := 9) rfl rfl (by decide) rfl (fun ls hl => ?_)
                refine lv_goto (tgt := 49) hx hb dX9_stoodBy_120 (by decide) ?_
                exact ih x3 x4 x5 x6 (1 : Int32) (x8 + (1 : Int32)) H locs hP hD hS ls (lv_sub hl [3, 4, 5, 6, 7, 8, 9, 1, 0] rfl) hw
def wp_X9_stoodBy_5 (sv : Nat → Int32) (p1 : Int32) (p2 : Int32) (Q : Int32 → Prop)  : Nat → Int32 → Int32 → Prop
  | 0, _, _ => False
  | n + 1, x3, x4 =>
    ((((3 : Int32) ≤ x4) → (z01 x3 ∧ Q x3)) ∧ (¬ ((3 : Int32) ≤ x4) → (vp_in (((22 : Int32) + ((3 : Int32) * p1)) + x4) 161 ∧ (∀ v_3 : Int32, v_3 = (sv ((((22 : Int32) + ((3 : Int32) * p1)) + x4)).toNatClampNeg) → (vp_in (((22 : Int32) + ((3 : Int32) * p2)) + x4) 161 ∧ (∀ v_5 : Int32, v_5 = (sv ((((22 : Int32) + ((3 : Int32) * p2)) + x4)).toNatClampNeg) → (∃ j_ : Nat, wp_X9_stoodBy_49 sv p1 p2 Q (fun a0_ a1_ => wp_X9_stoodBy_5 sv p1 p2 Q  n a0_ a1_) j_ x3 x4 v_3 v_5 (1 : Int32) (0 : Int32))))))))
set_option maxHeartbeats 4000000 in
theorem wk_X9_stoodBy_5 {p : Program} {l : Launch} {e : Env} {s : State} {m : MethodId} {below : List Frame} {meth : Method} {c : Code} {args : Array Value} {G : GT} {A : Nat → Prop} (h h_s h_images h_tape h_draft h_items h_moved h_sizes h_lanes h_less h_aside h_order : Nat) (kept : Int32) (typed : Int32) (atv : Int32) (sv : Nat → Int32) (p1 : Int32) (p2 : Int32) (Q : Int32 → Prop)  (C : Cx p s m meth c cX9_stoodBy 10 (some .boolean) RX9 args G A)  :
    ∀ (n : Nat), ∀  (x3 : Int32) (x4 : Int32) (H : Heap) (locs : List Loc), va_P G.1 gCl [oc h 9 [.ref h_s, .ref h_images, .int kept, .ref h_tape, .int typed, .ref h_draft, .int atv, .ref h_items, .ref h_moved, .ref h_sizes, .ref h_lanes, .ref h_less, .ref h_aside, .ref h_order], ai G h_s 161 sv] H → va_D A [oc h 9 [.ref h_s, .ref h_images, .int kept, .ref h_tape, .int typed, .ref h_draft, .int atv, .ref h_items, .ref h_moved, .ref h_sizes, .ref h_lanes, .ref h_less, .ref h_aside, .ref h_order], ai G h_s 161 sv] → va_S A s.heap H locs → ∀ (ls : Array Slot), lv_has ls 10 [(0, .ref h), (1, .int p1), (2, .int p2), (3, .int x3), (4, .int x4)] → wp_X9_stoodBy_5 sv p1 p2 Q  n x3 x4 → W p l e ({ frames := 0, cells := 0, slots := 0, locals := 0 } : Room) s m args below meth c H locs 0 0 (MQ below (va_Qi (fun (r : Int32) (u : Unit) => Q r ) (fun u t => va_P G.1 gCl [oc h 9 [.ref h_s, .ref h_images, .int kept, .ref h_tape, .int typed, .ref h_draft, .int atv, .ref h_items, .ref h_moved, .ref h_sizes, .ref h_lanes, .ref h_less, .ref h_aside, .ref h_order], ai G h_s 161 sv] t.heap ∧ va_D A [oc h 9 [.ref h_s, .ref h_images, .int kept, .ref h_tape, .int typed, .ref h_draft, .int atv, .ref h_items, .ref h_moved, .ref h_sizes, .ref h_lanes, .ref h_less, .ref h_aside, .ref h_order], ai G h_s 161 sv]) A) args s 0 0 A) (F0 m 5 ls []) := by
  have C9 := C
  obtain ⟨hx, hb, hr, hlocks, hml, hown, hts, hK, hA⟩ := C9
  intro n
  induction n with
  | zero => intro x3 x4 H locs hP hD hS ls hl hw; exact False.elim hw
  | succ n ih =>
    intro x3 x4 H locs hP hD hS ls hl hw
    unfold wp_X9_stoodBy_5 at hw
    refine lv_iload hx hb dX9_stoodBy_5 (lv_at hl 4 rfl) ?_
    refine lv_iconst (v := (3 : Int32)) hx hb dX9_stoodBy_7 (by decide) ?_
    refine lv_icmp_ge (tgt := 144) hx hb dX9_stoodBy_8 (by decide) (fun c_1 => ?_) (fun c_1 => ?_)
    · replace hw := hw.1 c_1
      refine lv_iload_n hx hb dX9_stoodBy_144 rfl (lv_at hl 3 rfl) ?_
      obtain ⟨hz, hw⟩ := hw
      have hP9 := hP
      have hD9 := hD
      exact W.zret (v := x3) hx hb hr (z01.nar hz) (fun t ht hW => ⟨⟨x3, (), rfl, hw, by rw [ht]; exact hP9, hD9⟩, hS.F ht⟩) hS.2.2 dX9_stoodBy_145
    · replace hw := hw.2 c_1
      refine lv_aload_n hx hb dX9_stoodBy_11 rfl (lv_at hl 0 rfl) ?_
      refine va_get (D := G.1) (ci := 9) (v := .ref h_s) (C := RX9) (T := TX9) (N := 14) hx hb hts in_X9 hown hK.1 hP 0 rfl rfl 0 (by decide) (hts _ q817) (fun _ h9 => h9) rfl dX9_stoodBy_12 ?_
      refine lv_bipush (v := (22 : Int32)) hx hb dX9_stoodBy_15 (by decide) ?_
      refine lv_iconst (v := (3 : Int32)) hx hb dX9_stoodBy_17 (by decide) ?_
      refine lv_iload_n hx hb dX9_stoodBy_18 rfl (lv_at hl 1 rfl) ?_
      refine lv_imul hx hb dX9_stoodBy_19 ?_
      refine lv_iadd hx hb dX9_stoodBy_20 ?_
      refine lv_iload hx hb dX9_stoodBy_21 (lv_at hl 4 rfl) ?_
      refine lv_iadd hx hb dX9_stoodBy_23 ?_
      obtain ⟨i_2, hw⟩ := hw
      refine z_iald hx hb hK.1 hP 1 0 rfl rfl i_2 dX9_stoodBy_24 (k := ((((22 : Int32) + ((3 : Int32) * p1)) + x4)).toNatClampNeg) rfl ?_
      refine lv_topi (fun v_3 ev_3 => ?_)
      replace hw := hw v_3 ev_3
      refine lv_istore (lv' := [(5, .int v_3), (0, .ref h), (1, .int p1), (2, .int p2), (3, .int x3), (4, .int x4)]) hx hb dX9_stoodBy_25 hl (by decide) rfl (fun ls hl => ?_)
      refine lv_aload_n hx hb dX9_stoodBy_27 rfl (lv_at hl 1 rfl) ?_
      refine va_get (D := G.1) (ci := 9) (v := .ref h_s) (C := RX9) (T := TX9) (N := 14) hx hb hts in_X9 hown hK.1 hP 0 rfl rfl 0 (by decide) (hts _ q817) (fun _ h9 => h9) rfl dX9_stoodBy_28 ?_
      refine lv_bipush (v := (22 : Int32)) hx hb dX9_stoodBy_31 (by decide) ?_
      refine lv_iconst (v := (3 : Int32)) hx hb dX9_stoodBy_33 (by decide) ?_
      refine lv_iload_n hx hb dX9_stoodBy_34 rfl (lv_at hl 3 rfl) ?_
      refine lv_imul hx hb dX9_stoodBy_35 ?_
      refine lv_iadd hx hb dX9_stoodBy_36 ?_
      refine lv_iload hx hb dX9_stoodBy_37 (lv_at hl 5 rfl) ?_
      refine lv_iadd hx hb dX9_stoodBy_39 ?_
      obtain ⟨i_4, hw⟩ := hw
      refine z_iald hx hb hK.1 hP 1 0 rfl rfl i_4 dX9_stoodBy_40 (k := ((((22 : Int32) + ((3 : Int32) * p2)) + x4)).toNatClampNeg) rfl ?_
      refine lv_topi (fun v_5 ev_5 => ?_)
      replace hw := hw v_5 ev_5
      refine lv_istore (lv' := [(6, .int v_5), (5, .int v_3), (0, .ref h), (1, .int p1), (2, .int p2), (3, .int x3), (4, .int x4)]) hx hb dX9_stoodBy_41 hl (by decide) rfl (fun ls hl => ?_)
      refine lv_iconst (v := (1 : Int32)) hx hb dX9_stoodBy_43 (by decide) ?_
      refine lv_istore (lv' := [(7, .int (1 : Int32)), (6, .int v_5), (5, .int v_3), (0, .ref h), (1, .int p1), (2, .int p2), (3, .int x3), (4, .int x4)]) hx hb dX9_stoodBy_44 hl (by decide) rfl (fun ls hl => ?_)
      refine lv_iconst (v := (0 : Int32)) hx hb dX9_stoodBy_46 (by decide) ?_
      refine lv_istore (lv' := [(8, .int (0 : Int32)), (7, .int (1 : Int32)), (6, .int v_5), (5, .int v_3), (0, .ref h), (1, .int p1), (2, .int p2), (3, .int x3), (4, .int x4)]) hx hb dX9_stoodBy_47 hl (by decide) rfl (fun ls hl => ?_)
      obtain ⟨j_, hw⟩ := hw
      exact wk_X9_stoodBy_49 h h_s h_images h_tape h_draft h_items h_moved h_sizes h_lanes h_less h_aside h_order kept typed atv sv p1 p2  Q (fun a0_ a1_ => wp_X9_stoodBy_5 sv p1 p2 Q  n a0_ a1_) C ih j_ x3 x4 v_3 v_5 (1 : Int32) (0 : Int32) H locs hP hD hS ls (lv_sub hl [4, 5, 6, 7, 8, 3, 2, 1, 0] rfl) hw
def wp_X9_stoodBy (sv : Nat → Int32) (p1 : Int32) (p2 : Int32) (Q : Int32 → Prop) : Prop :=
  (∃ j_ : Nat, wp_X9_stoodBy_5 sv p1 p2 Q  j_ (0 : Int32) (0 : Int32))
set_option maxHeartbeats 4000000 in
theorem mt_X9_stoodBy (l : Launch) (G : GT) (h h_s h_images h_tape h_draft h_items h_moved h_sizes h_lanes h_less h_aside h_order : Nat) (sz : Nat) (kept : Int32) (typed : Int32) (atv : Int32) (sv : Nat → Int32) (p1 : Int32) (p2 : Int32) (Q : Int32 → Prop) (hw : wp_X9_stoodBy sv p1 p2 Q) : Met l yX9_stoodBy (ws_ yX9_stoodBy cX9_stoodBy 10 (some .boolean)) ({ frames := 0, cells := 0, slots := 0, locals := 0 } : Room) (va_Pc [.ref h, .int p1, .int p2] (fun U => U.heap.size = sz ∧ va_P G.1 gCl [oc h 9 [.ref h_s, .ref h_images, .int kept, .ref h_tape, .int typed, .ref h_draft, .int atv, .ref h_items, .ref h_moved, .ref h_sizes, .ref h_lanes, .ref h_less, .ref h_aside, .ref h_order], ai G h_s 161 sv] U.heap ∧ gK G U ∧ va_D (fun _ => True) [oc h 9 [.ref h_s, .ref h_images, .int kept, .ref h_tape, .int typed, .ref h_draft, .int atv, .ref h_items, .ref h_moved, .ref h_sizes, .ref h_lanes, .ref h_less, .ref h_aside, .ref h_order], ai G h_s 161 sv])) ((fun A => (va_Qi (fun (r : Int32) (u : Unit) => Q r ) (fun u t => va_P G.1 gCl [oc h 9 [.ref h_s, .ref h_images, .int kept, .ref h_tape, .int typed, .ref h_draft, .int atv, .ref h_items, .ref h_moved, .ref h_sizes, .ref h_lanes, .ref h_less, .ref h_aside, .ref h_order], ai G h_s 161 sv] t.heap ∧ va_D A [oc h 9 [.ref h_s, .ref h_images, .int kept, .ref h_tape, .int typed, .ref h_draft, .int atv, .ref h_items, .ref h_moved, .ref h_sizes, .ref h_lanes, .ref h_less, .ref h_aside, .ref h_order], ai G h_s 161 sv]) A)) (va_A [oc h 9 [.ref h_s, .ref h_images, .int kept, .ref h_tape, .int typed, .ref h_draft, .int atv, .ref h_items, .ref h_moved, .ref h_sizes, .ref h_lanes, .ref h_less, .ref h_aside, .ref h_order], ai G h_s 161 sv] sz)) 0 0 (va_A [oc h 9 [.ref h_s, .ref h_images, .int kept, .ref h_tape, .int typed, .ref h_draft, .int atv, .ref h_items, .ref h_moved, .ref h_sizes, .ref h_lanes, .ref h_less, .ref h_aside, .ref h_order], ai G h_s 161 sv] sz) := by
  refine Met.ofW (cc := cX9_stoodBy) (maxL := 10) (ret := (some .boolean)) (by decide) rfl ?_
  intro p e s m args below meth c s₁ B hml hv
  obtain ⟨rfl, hsz, hP, hK, hD0⟩ := hv
  have hx := B.exec
  have hb := B.bytes
  have hr := B.returns
  have hts := atoms_spec (ws := (ws_ yX9_stoodBy cX9_stoodBy 10 (some .boolean))) B.pre
  have hts : ∀ w ∈ lw_all, w.before _ s = true := fun w h => hts w (List.mem_cons_of_mem _ h)
  have hown : s.vm.findClass RX9 = some m.cls := findClass_of_methodNamed B.named
  have hlocks := B.notSynchronized
  subst hsz
  have hD := hD0.self (sz := s.heap.size)
  generalize hAe : va_A [oc h 9 [.ref h_s, .ref h_images, .int kept, .ref h_tape, .int typed, .ref h_draft, .int atv, .ref h_items, .ref h_moved, .ref h_sizes, .ref h_lanes, .ref h_less, .ref h_aside, .ref h_order], ai G h_s 161 sv] s.heap.size = A at hD ⊢
  have hA : ∀ q : Nat, s.heap.size ≤ q → A q := fun q h => by rw [← hAe]; exact Or.inr h
  have hS : va_S A s.heap s.heap [] := va_S.rf
  have C : Cx p s m meth c cX9_stoodBy 10 (some .boolean) RX9 ([.ref h, .int p1, .int p2] : List Value).toArray G A := ⟨hx, hb, hr, hlocks, hml, hown, hts, hK, hA⟩
  have hl := lv_entry ([.ref h, .int p1, .int p2]) (n := 10) (Nat.le_of_ble_eq_true rfl)
  rw [lg_entry_eq]
  generalize (lg_sl ([.ref h, .int p1, .int p2]) ++ List.replicate (10 - (lg_sl ([.ref h, .int p1, .int p2])).length) Slot.unset).toArray = ls at hl ⊢
  have hl : lv_has ls 10 [(0, .ref h), (1, .int p1), (2, .int p2)] := hl
  unfold wp_X9_stoodBy at hw
  refine lv_iconst (v := (0 : Int32)) hx hb dX9_stoodBy_0 (by decide) ?_
  refine lv_istore_n (lv' := [(3, .int (0 : Int32)), (0, .ref h), (1, .int p1), (2, .int p2)]) hx hb dX9_stoodBy_1 rfl hl (by decide) rfl (fun ls hl => ?_)
  refine lv_iconst (v := (0 : Int32)) hx hb dX9_stoodBy_2 (by decide) ?_
  refine lv_istore (lv' := [(4, .int (0 : Int32)), (3, .int (0 : Int32)), (0, .ref h), (1, .int p1), (2, .int p2)]) hx hb dX9_stoodBy_3 hl (by decide) rfl (fun ls hl => ?_)
  obtain ⟨j_, hw⟩ := hw
  exact wk_X9_stoodBy_5 h h_s h_images h_tape h_draft h_items h_moved h_sizes h_lanes h_less h_aside h_order kept typed atv sv p1 p2  Q  C  j_ (0 : Int32) (0 : Int32) s.heap [] hP hD hS ls (lv_sub hl [2, 3, 4, 1, 0] rfl) hw
/-! BattleBenchModel.allStoodBy(I)I -/
def wp_X9_allStoodBy_4 (sv : Nat → Int32) (p1 : Int32) (Q : Int32 → Prop)  : Nat → Int32 → Int32 → Prop
  | 0, _, _ => False
  | n + 1, x2, x3 =>
    ((((sv 0) ≤ x3) → Q x2) ∧ (¬ ((sv 0) ≤ x3) → (((x3 = p1) → (∀ v_3 : Int32, v_3 = (x2 ||| (0 : Int32)) → wp_X9_allStoodBy_4 sv p1 Q  n v_3 (x3 + (1 : Int32)))) ∧ (¬ (x3 = p1) → wp_X9_stoodBy sv p1 x3 (fun r_4 => (((r_4 = 0) → (∀ v_6 : Int32, v_6 = (x2 ||| (0 : Int32)) → wp_X9_allStoodBy_4 sv p1 Q  n v_6 (x3 + (1 : Int32)))) ∧ (¬ (r_4 = 0) → (∀ v_7 : Int32, v_7 = (x2 ||| ((1 : Int32) <<< (x3 &&& 31))) → wp_X9_allStoodBy_4 sv p1 Q  n v_7 (x3 + (1 : Int32))))))))))
set_option maxHeartbeats 4000000 in
theorem wk_X9_allStoodBy_4 {p : Program} {l : Launch} {e : Env} {s : State} {m : MethodId} {below : List Frame} {meth : Method} {c : Code} {args : Array Value} {G : GT} {A : Nat → Prop} (h h_s h_images h_tape h_draft h_items h_moved h_sizes h_lanes h_less h_aside h_order : Nat) (kept : Int32) (typed : Int32) (atv : Int32) (sv : Nat → Int32) (p1 : Int32) (Q : Int32 → Prop)  (C : Cx p s m meth c cX9_allStoodBy 4 (some .int) RX9 args G A)  :
    ∀ (n : Nat), ∀  (x2 : Int32) (x3 : Int32) (H : Heap) (locs : List Loc), va_P G.1 gCl [oc h 9 [.ref h_s, .ref h_images, .int kept, .ref h_tape, .int typed, .ref h_draft, .int atv, .ref h_items, .ref h_moved, .ref h_sizes, .ref h_lanes, .ref h_less, .ref h_aside, .ref h_order], ai G h_s 161 sv] H → va_D A [oc h 9 [.ref h_s, .ref h_images, .int kept, .ref h_tape, .int typed, .ref h_draft, .int atv, .ref h_items, .ref h_moved, .ref h_sizes, .ref h_lanes, .ref h_less, .ref h_aside, .ref h_order], ai G h_s 161 sv] → va_S A s.heap H locs → ∀ (ls : Array Slot), lv_has ls 4 [(0, .ref h), (1, .int p1), (2, .int x2), (3, .int x3)] → wp_X9_allStoodBy_4 sv p1 Q  n x2 x3 → W p l e ({ frames := 1, cells := 0, slots := 0, locals := 29 } : Room) s m args below meth c H locs 0 0 (MQ below (va_Qi (fun (r : Int32) (u : Unit) => Q r ) (fun u t => va_P G.1 gCl [oc h 9 [.ref h_s, .ref h_images, .int kept, .ref h_tape, .int typed, .ref h_draft, .int atv, .ref h_items, .ref h_moved, .ref h_sizes, .ref h_lanes, .ref h_less, .ref h_aside, .ref h_order], ai G h_s 161 sv] t.heap ∧ va_D A [oc h 9 [.ref h_s, .ref h_images, .int kept, .ref h_tape, .int typed, .ref h_draft, .int atv, .ref h_items, .ref h_moved, .ref h_sizes, .ref h_lanes, .ref h_less, .ref h_aside, .ref h_order], ai G h_s 161 sv]) A) args s 0 0 A) (F0 m 4 ls []) := by
  have C9 := C
  obtain ⟨hx, hb, hr, hlocks, hml, hown, hts, hK, hA⟩ := C9
  intro n
  induction n with
  | zero => intro x2 x3 H locs hP hD hS ls hl hw; exact False.elim hw
  | succ n ih =>
    intro x2 x3 H locs hP hD hS ls hl hw
    unfold wp_X9_allStoodBy_4 at hw
    refine lv_iload_n hx hb dX9_allStoodBy_4 rfl (lv_at hl 3 rfl) ?_
    refine lv_aload_n hx hb dX9_allStoodBy_5 rfl (lv_at hl 0 rfl) ?_
    refine va_get (D := G.1) (ci := 9) (v := .ref h_s) (C := RX9) (T := TX9) (N := 14) hx hb hts in_X9 hown hK.1 hP 0 rfl rfl 0 (by decide) (hts _ q817) (fun _ h9 => h9) rfl dX9_allStoodBy_6 ?_
    refine lv_iconst (v := (0 : Int32)) hx hb dX9_allStoodBy_9 (by decide) ?_
    refine z_iald hx hb hK.1 hP 1 0 rfl rfl (vin_l (by decide +kernel)) dX9_allStoodBy_10 (k := 0) rfl ?_
    refine lv_icmp_ge (tgt := 44) hx hb dX9_allStoodBy_11 (by decide) (fun c_1 => ?_) (fun c_1 => ?_)
    · replace hw := hw.1 c_1
      refine lv_iload_n hx hb dX9_allStoodBy_44 rfl (lv_at hl 2 rfl) ?_
      have hP9 := hP
      have hD9 := hD
      exact W.iret (v := x2) hx hb hr (fun t ht hW => ⟨⟨x2, (), rfl, hw, by rw [ht]; exact hP9, hD9⟩, hS.F ht⟩) hS.2.2 dX9_allStoodBy_45
    · replace hw := hw.2 c_1
      refine lv_iload_n hx hb dX9_allStoodBy_14 rfl (lv_at hl 2 rfl) ?_
      refine lv_iload_n hx hb dX9_allStoodBy_15 rfl (lv_at hl 3 rfl) ?_
      refine lv_iload_n hx hb dX9_allStoodBy_16 rfl (lv_at hl 1 rfl) ?_
      refine lv_icmp_eq (tgt := 35) hx hb dX9_allStoodBy_17 (by decide) (fun c_2 => ?_) (fun c_2 => ?_)
      · replace hw := hw.1 c_2
        refine lv_iconst (v := (0 : Int32)) hx hb dX9_allStoodBy_35 (by decide) ?_
        refine lv_ior hx hb dX9_allStoodBy_36 ?_
        refine lv_topi (fun v_3 ev_3 => ?_)
        replace hw := hw v_3 ev_3
        refine lv_istore_n (lv' := [(2, .int v_3), (0, .ref h), (1, .int p1), (3, .int x3)]) hx hb dX9_allStoodBy_37 rfl hl (by decide) rfl (fun ls hl => ?_)
        refine lv_iinc (v := (x3 + (1 : Int32))) (lv' := [(3, .int (x3 + (1 : Int32))), (2, .int v_3), (0, .ref h), (1, .int p1)]) hx hb dX9_allStoodBy_38 hl (k := 3) rfl rfl (by decide) rfl (fun ls hl => ?_)
        refine lv_goto (tgt := 4) hx hb dX9_allStoodBy_41 (by decide) ?_
        exact ih v_3 (x3 + (1 : Int32)) H locs hP hD hS ls (lv_sub hl [2, 3, 1, 0] rfl) hw
      · replace hw := hw.2 c_2
        refine lv_aload_n hx hb dX9_allStoodBy_20 rfl (lv_at hl 0 rfl) ?_
        refine lv_iload_n hx hb dX9_allStoodBy_21 rfl (lv_at hl 1 rfl) ?_
        refine lv_iload_n hx hb dX9_allStoodBy_22 rfl (lv_at hl 3 rfl) ?_
        have hPc := hP.sub (ws' := [oc h 9 [.ref h_s, .ref h_images, .int kept, .ref h_tape, .int typed, .ref h_draft, .int atv, .ref h_items, .ref h_moved, .ref h_sizes, .ref h_lanes, .ref h_less, .ref h_aside, .ref h_order], ai G h_s 161 sv]) [0, 1] rfl
        have hDc := hD.sub (ws' := [oc h 9 [.ref h_s, .ref h_images, .int kept, .ref h_tape, .int typed, .ref h_draft, .int atv, .ref h_items, .ref h_moved, .ref h_sizes, .ref h_lanes, .ref h_less, .ref h_aside, .ref h_order], ai G h_s 161 sv]) [0, 1] (by decide) rfl
        have hFc := va_free (wc := [oc h 9 [.ref h_s, .ref h_images, .int kept, .ref h_tape, .int typed, .ref h_draft, .int atv, .ref h_items, .ref h_moved, .ref h_sizes, .ref h_lanes, .ref h_less, .ref h_aside, .ref h_order], ai G h_s 161 sv]) hD hS hA [0, 1] rfl
        refine va_calli (va_runV (As := [.int p1, .int x3]) (rest := [.int x2]) ⟨hx, hb, hml, hown, hts⟩ (mt_X9_stoodBy l G h h_s h_images h_tape h_draft h_items h_moved h_sizes h_lanes h_less h_aside h_order H.size kept typed atv sv p1 x3 _ hw) (cwV 2 hts (lw_V q891 q893 qs30 q65 q894) rfl rfl rfl (by decide +kernel) ⟨Nat.le_of_ble_eq_true rfl, Nat.le_of_ble_eq_true rfl⟩) ⟨fun a U g mk q => by obtain ⟨q0, q1, qP, qK, qD⟩ := q; exact ⟨q0, q1, qP, qK.call, qD⟩, va_recv hK.1 hP (ci := 9) (q0 := 0) rfl rfl, fun U hU hW => ⟨rfl, by rw [hU], by rw [hU]; exact hPc, hK.warm hW, hDc.weaken (fun _ _ _ _ => trivial)⟩⟩ rfl rfl hl.1 rfl (lv_room (Nat.le_of_ble_eq_true rfl)) dX9_allStoodBy_23 ⟨Nat.le_of_ble_eq_true rfl, Nat.le_of_ble_eq_true rfl⟩) hS (fun q _ h => hFc q h) hFc (fun r_4 _ t H1 locs ht hvm hw hB hz1 hk1 hS => ?_)
        obtain ⟨hP1, hD1⟩ := hB
        rw [ht] at hP1
        obtain ⟨hP, hD⟩ := va_join (wr := []) (w1 := [oc h 9 [.ref h_s, .ref h_images, .int kept, .ref h_tape, .int typed, .ref h_draft, .int atv, .ref h_items, .ref h_moved, .ref h_sizes, .ref h_lanes, .ref h_less, .ref h_aside, .ref h_order], ai G h_s 161 sv]) hP hD [0, 1] [] rfl rfl (by decide) (by decide) hk1 hFc hP1 hD1
        clear hPc hDc hFc hP1 hD1 hz1 hk1 hvm
        generalize H1 = H at hP hS ⊢
        have hP : va_P G.1 gCl [oc h 9 [.ref h_s, .ref h_images, .int kept, .ref h_tape, .int typed, .ref h_draft, .int atv, .ref h_items, .ref h_moved, .ref h_sizes, .ref h_lanes, .ref h_less, .ref h_aside, .ref h_order], ai G h_s 161 sv] H := hP
        have hD : va_D A [oc h 9 [.ref h_s, .ref h_images, .int kept, .ref h_tape, .int typed, .ref h_draft, .int atv, .ref h_items, .ref h_moved, .ref h_sizes, .ref h_lanes, .ref h_less, .ref h_aside, .ref h_order], ai G h_s 161 sv] := hD
        refine lv_if_eq (tgt := 35) hx hb dX9_allStoodBy_26 (by decide) (fun c_5 => ?_) (fun c_5 => ?_)
        · replace hw := hw.1 c_5
          refine lv_iconst (v := (0 : Int32)) hx hb dX9_allStoodBy_35 (by decide) ?_
          refine lv_ior hx hb dX9_allStoodBy_36 ?_
          refine lv_topi (fun v_6 ev_6 => ?_)
          replace hw := hw v_6 ev_6
          refine lv_istore_n (lv' := [(2, .int v_6), (0, .ref h), (1, .int p1), (3, .int x3)]) hx hb dX9_allStoodBy_37 rfl hl (by decide) rfl (fun ls hl => ?_)
          refine lv_iinc (v := (x3 + (1 : Int32))) (lv' := [(3, .int (x3 + (1 : Int32))), (2, .int v_6), (0, .ref h), (1, .int p1)]) hx hb dX9_allStoodBy_38 hl (k := 3) rfl rfl (by decide) rfl (fun ls hl => ?_)
          refine lv_goto (tgt := 4) hx hb dX9_allStoodBy_41 (by decide) ?_
          exact ih v_6 (x3 + (1 : Int32)) H locs hP hD hS ls (lv_sub hl [2, 3, 1, 0] rfl) hw
        · replace hw := hw.2 c_5
          refine lv_iconst (v := (1 : Int32)) hx hb dX9_allStoodBy_29 (by decide) ?_
          refine lv_iload_n hx hb dX9_allStoodBy_30 rfl (lv_at hl 3 rfl) ?_
          refine lv_ishl hx hb dX9_allStoodBy_31 ?_
          refine lv_goto (tgt := 36) hx hb dX9_allStoodBy_32 (by decide) ?_
          refine lv_ior hx hb dX9_allStoodBy_36 ?_
          refine lv_topi (fun v_7 ev_7 => ?_)
          replace hw := hw v_7 ev_7
          refine lv_istore_n (lv' := [(2, .int v_7), (0, .ref h), (1, .int p1), (3, .int x3)]) hx hb dX9_allStoodBy_37 rfl hl (by decide) rfl (fun ls hl => ?_)
          refine lv_iinc (v := (x3 + (1 : Int32))) (lv' := [(3, .int (x3 + (1 : Int32))), (2, .int v_7), (0, .ref h), (1, .int p1)]) hx hb dX9_allStoodBy_38 hl (k := 3) rfl rfl (by decide) rfl (fun ls hl => ?_)
          refine lv_goto (tgt := 4) hx hb dX9_allStoodBy_41 (by decide) ?_
          exact ih v_7 (x3 + (1 : Int32)) H locs hP hD hS ls (lv_sub hl [2, 3, 1, 0] rfl) hw
def wp_X9_allStoodBy (sv : Nat → Int32) (p1 : Int32) (Q : Int32 → Prop) : Prop :=
  (∃ j_ : Nat, wp_X9_allStoodBy_4 sv p1 Q  j_ (0 : Int32) (0 : Int32))
set_option maxHeartbeats 4000000 in
theorem mt_X9_allStoodBy (l : Launch) (G : GT) (h h_s h_images h_tape h_draft h_items h_moved h_sizes h_lanes h_less h_aside h_order : Nat) (sz : Nat) (kept : Int32) (typed : Int32) (atv : Int32) (sv : Nat → Int32) (p1 : Int32) (Q : Int32 → Prop) (hw : wp_X9_allStoodBy sv p1 Q) : Met l yX9_allStoodBy (ws_ yX9_allStoodBy cX9_allStoodBy 4 (some .int)) ({ frames := 1, cells := 0, slots := 0, locals := 29 } : Room) (va_Pc [.ref h, .int p1] (fun U => U.heap.size = sz ∧ va_P G.1 gCl [oc h 9 [.ref h_s, .ref h_images, .int kept, .ref h_tape, .int typed, .ref h_draft, .int atv, .ref h_items, .ref h_moved, .ref h_sizes, .ref h_lanes, .ref h_less, .ref h_aside, .ref h_order], ai G h_s 161 sv] U.heap ∧ gK G U ∧ va_D (fun _ => True) [oc h 9 [.ref h_s, .ref h_images, .int kept, .ref h_tape, .int typed, .ref h_draft, .int atv, .ref h_items, .ref h_moved, .ref h_sizes, .ref h_lanes, .ref h_less, .ref h_aside, .ref h_order], ai G h_s 161 sv])) ((fun A => (va_Qi (fun (r : Int32) (u : Unit) => Q r ) (fun u t => va_P G.1 gCl [oc h 9 [.ref h_s, .ref h_images, .int kept, .ref h_tape, .int typed, .ref h_draft, .int atv, .ref h_items, .ref h_moved, .ref h_sizes, .ref h_lanes, .ref h_less, .ref h_aside, .ref h_order], ai G h_s 161 sv] t.heap ∧ va_D A [oc h 9 [.ref h_s, .ref h_images, .int kept, .ref h_tape, .int typed, .ref h_draft, .int atv, .ref h_items, .ref h_moved, .ref h_sizes, .ref h_lanes, .ref h_less, .ref h_aside, .ref h_order], ai G h_s 161 sv]) A)) (va_A [oc h 9 [.ref h_s, .ref h_images, .int kept, .ref h_tape, .int typed, .ref h_draft, .int atv, .ref h_items, .ref h_moved, .ref h_sizes, .ref h_lanes, .ref h_less, .ref h_aside, .ref h_order], ai G h_s 161 sv] sz)) 0 0 (va_A [oc h 9 [.ref h_s, .ref h_images, .int kept, .ref h_tape, .int typed, .ref h_draft, .int atv, .ref h_items, .ref h_moved, .ref h_sizes, .ref h_lanes, .ref h_less, .ref h_aside, .ref h_order], ai G h_s 161 sv] sz) := by
  refine Met.ofW (cc := cX9_allStoodBy) (maxL := 4) (ret := (some .int)) (by decide) rfl ?_
  intro p e s m args below meth c s₁ B hml hv
  obtain ⟨rfl, hsz, hP, hK, hD0⟩ := hv
  have hx := B.exec
  have hb := B.bytes
  have hr := B.returns
  have hts := atoms_spec (ws := (ws_ yX9_allStoodBy cX9_allStoodBy 4 (some .int))) B.pre
  have hts : ∀ w ∈ lw_all, w.before _ s = true := fun w h => hts w (List.mem_cons_of_mem _ h)
  have hown : s.vm.findClass RX9 = some m.cls := findClass_of_methodNamed B.named
  have hlocks := B.notSynchronized
  subst hsz
  have hD := hD0.self (sz := s.heap.size)
  generalize hAe : va_A [oc h 9 [.ref h_s, .ref h_images, .int kept, .ref h_tape, .int typed, .ref h_draft, .int atv, .ref h_items, .ref h_moved, .ref h_sizes, .ref h_lanes, .ref h_less, .ref h_aside, .ref h_order], ai G h_s 161 sv] s.heap.size = A at hD ⊢
  have hA : ∀ q : Nat, s.heap.size ≤ q → A q := fun q h => by rw [← hAe]; exact Or.inr h
  have hS : va_S A s.heap s.heap [] := va_S.rf
  have C : Cx p s m meth c cX9_allStoodBy 4 (some .int) RX9 ([.ref h, .int p1] : List Value).toArray G A := ⟨hx, hb, hr, hlocks, hml, hown, hts, hK, hA⟩
  have hl := lv_entry ([.ref h, .int p1]) (n := 4) (Nat.le_of_ble_eq_true rfl)
  rw [lg_entry_eq]
  generalize (lg_sl ([.ref h, .int p1]) ++ List.replicate (4 - (lg_sl ([.ref h, .int p1])).length) Slot.unset).toArray = ls at hl ⊢
  have hl : lv_has ls 4 [(0, .ref h), (1, .int p1)] := hl
  unfold wp_X9_allStoodBy at hw
  refine lv_iconst (v := (0 : Int32)) hx hb dX9_allStoodBy_0 (by decide) ?_
  refine lv_istore_n (lv' := [(2, .int (0 : Int32)), (0, .ref h), (1, .int p1)]) hx hb dX9_allStoodBy_1 rfl hl (by decide) rfl (fun ls hl => ?_)
  refine lv_iconst (v := (0 : Int32)) hx hb dX9_allStoodBy_2 (by decide) ?_
  refine lv_istore_n (lv' := [(3, .int (0 : Int32)), (2, .int (0 : Int32)), (0, .ref h), (1, .int p1)]) hx hb dX9_allStoodBy_3 rfl hl (by decide) rfl (fun ls hl => ?_)
  obtain ⟨j_, hw⟩ := hw
  exact wk_X9_allStoodBy_4 h h_s h_images h_tape h_draft h_items h_moved h_sizes h_lanes h_less h_aside h_order kept typed atv sv p1  Q  C  j_ (0 : Int32) (0 : Int32) s.heap [] hP hD hS ls (lv_sub hl [2, 3, 1, 0] rfl) hw
/-! BattleBenchModel.onSeat(I)I -/
def wp_X9_onSeat (sv : Nat → Int32) (p1 : Int32) (Q : Int32 → Prop) : Prop :=
  wp_X9_in  p1 (0 : Int32) ((sv 1) - (1 : Int32)) (fun r_1 => (((r_1 = 0) → Q (-4 : Int32)) ∧ (¬ (r_1 = 0) → (vp_in ((10 : Int32) + p1) 161 ∧ Q (sv (((10 : Int32) + p1)).toNatClampNeg)))))
set_option maxHeartbeats 4000000 in
theorem mt_X9_onSeat (l : Launch) (G : GT) (h h_s h_images h_tape h_draft h_items h_moved h_sizes h_lanes h_less h_aside h_order : Nat) (sz : Nat) (kept : Int32) (typed : Int32) (atv : Int32) (sv : Nat → Int32) (p1 : Int32) (Q : Int32 → Prop) (hw : wp_X9_onSeat sv p1 Q) : Met l yX9_onSeat (ws_ yX9_onSeat cX9_onSeat 2 (some .int)) ({ frames := 1, cells := 0, slots := 0, locals := 22 } : Room) (va_Pc [.ref h, .int p1] (fun U => U.heap.size = sz ∧ va_P G.1 gCl [oc h 9 [.ref h_s, .ref h_images, .int kept, .ref h_tape, .int typed, .ref h_draft, .int atv, .ref h_items, .ref h_moved, .ref h_sizes, .ref h_lanes, .ref h_less, .ref h_aside, .ref h_order], ai G h_s 161 sv] U.heap ∧ gK G U ∧ va_D (fun _ => True) [oc h 9 [.ref h_s, .ref h_images, .int kept, .ref h_tape, .int typed, .ref h_draft, .int atv, .ref h_items, .ref h_moved, .ref h_sizes, .ref h_lanes, .ref h_less, .ref h_aside, .ref h_order], ai G h_s 161 sv])) ((fun A => (va_Qi (fun (r : Int32) (u : Unit) => Q r ) (fun u t => va_P G.1 gCl [oc h 9 [.ref h_s, .ref h_images, .int kept, .ref h_tape, .int typed, .ref h_draft, .int atv, .ref h_items, .ref h_moved, .ref h_sizes, .ref h_lanes, .ref h_less, .ref h_aside, .ref h_order], ai G h_s 161 sv] t.heap ∧ va_D A [oc h 9 [.ref h_s, .ref h_images, .int kept, .ref h_tape, .int typed, .ref h_draft, .int atv, .ref h_items, .ref h_moved, .ref h_sizes, .ref h_lanes, .ref h_less, .ref h_aside, .ref h_order], ai G h_s 161 sv]) A)) (va_A [oc h 9 [.ref h_s, .ref h_images, .int kept, .ref h_tape, .int typed, .ref h_draft, .int atv, .ref h_items, .ref h_moved, .ref h_sizes, .ref h_lanes, .ref h_less, .ref h_aside, .ref h_order], ai G h_s 161 sv] sz)) 0 0 (va_A [oc h 9 [.ref h_s, .ref h_images, .int kept, .ref h_tape, .int typed, .ref h_draft, .int atv, .ref h_items, .ref h_moved, .ref h_sizes, .ref h_lanes, .ref h_less, .ref h_aside, .ref h_order], ai G h_s 161 sv] sz) := by
  refine Met.ofW (cc := cX9_onSeat) (maxL := 2) (ret := (some .int)) (by decide) rfl ?_
  intro p e s m args below meth c s₁ B hml hv
  obtain ⟨rfl, hsz, hP, hK, hD0⟩ := hv
  have hx := B.exec
  have hb := B.bytes
  have hr := B.returns
  have hts := atoms_spec (ws := (ws_ yX9_onSeat cX9_onSeat 2 (some .int))) B.pre
  have hts : ∀ w ∈ lw_all, w.before _ s = true := fun w h => hts w (List.mem_cons_of_mem _ h)
  have hown : s.vm.findClass RX9 = some m.cls := findClass_of_methodNamed B.named
  have hlocks := B.notSynchronized
  subst hsz
  have hD := hD0.self (sz := s.heap.size)
  generalize hAe : va_A [oc h 9 [.ref h_s, .ref h_images, .int kept, .ref h_tape, .int typed, .ref h_draft, .int atv, .ref h_items, .ref h_moved, .ref h_sizes, .ref h_lanes, .ref h_less, .ref h_aside, .ref h_order], ai G h_s 161 sv] s.heap.size = A at hD ⊢
  have hA : ∀ q : Nat, s.heap.size ≤ q → A q := fun q h => by rw [← hAe]; exact Or.inr h
  have hS : va_S A s.heap s.heap [] := va_S.rf
  have C : Cx p s m meth c cX9_onSeat 2 (some .int) RX9 ([.ref h, .int p1] : List Value).toArray G A := ⟨hx, hb, hr, hlocks, hml, hown, hts, hK, hA⟩
  have hl := lv_entry ([.ref h, .int p1]) (n := 2) (Nat.le_of_ble_eq_true rfl)
  rw [lg_entry_eq]
  generalize (lg_sl ([.ref h, .int p1]) ++ List.replicate (2 - (lg_sl ([.ref h, .int p1])).length) Slot.unset).toArray = ls at hl ⊢
  have hl : lv_has ls 2 [(0, .ref h), (1, .int p1)] := hl
  unfold wp_X9_onSeat at hw
  refine lv_iload_n hx hb dX9_onSeat_0 rfl (lv_at hl 1 rfl) ?_
  refine lv_iconst (v := (0 : Int32)) hx hb dX9_onSeat_1 (by decide) ?_
  refine lv_aload_n hx hb dX9_onSeat_2 rfl (lv_at hl 0 rfl) ?_
  refine va_get (D := G.1) (ci := 9) (v := .ref h_s) (C := RX9) (T := TX9) (N := 14) hx hb hts in_X9 hown hK.1 hP 0 rfl rfl 0 (by decide) (hts _ q817) (fun _ h9 => h9) rfl dX9_onSeat_3 ?_
  refine lv_iconst (v := (1 : Int32)) hx hb dX9_onSeat_6 (by decide) ?_
  refine z_iald hx hb hK.1 hP 1 0 rfl rfl (vin_l (by decide +kernel)) dX9_onSeat_7 (k := 1) rfl ?_
  refine lv_iconst (v := (1 : Int32)) hx hb dX9_onSeat_8 (by decide) ?_
  refine lv_isub hx hb dX9_onSeat_9 ?_
  have hPc := hP.sub (ws' := []) [] rfl
  have hDc := hD.sub (ws' := []) [] (by decide) rfl
  have hFc := va_free (wc := []) hD hS hA [] rfl
  refine va_calli (va_runS (As := [.int p1, .int (0 : Int32), .int ((sv 1) - (1 : Int32))]) (rest := []) ⟨hx, hb, hml, hown, hts⟩ (mt_X9_in l G  s.heap.size  p1 (0 : Int32) ((sv 1) - (1 : Int32)) _ hw) (va_cwS 3 hts (lw_S q864 q865 q65 q866) rfl rfl rfl (by decide +kernel) ⟨Nat.le_of_ble_eq_true rfl, Nat.le_of_ble_eq_true rfl⟩) ⟨fun a U g mk q => by obtain ⟨q0, q1, qP, qK, qD⟩ := q; exact ⟨q0, q1, qP, qK.call, qD⟩, fun U hU hW => ⟨rfl, by rw [hU], by rw [hU]; exact hPc, hK.warm hW, hDc.weaken (fun _ _ _ _ => trivial)⟩⟩ rfl rfl hl.1 rfl (lv_room (Nat.le_of_ble_eq_true rfl)) dX9_onSeat_10 ⟨Nat.le_of_ble_eq_true rfl, Nat.le_of_ble_eq_true rfl⟩) hS (fun q _ h => hFc q h) hFc (fun r_1 _ t H1 locs ht hvm hw hB hz1 hk1 hS => ?_)
  obtain ⟨hP1, hD1⟩ := hB
  rw [ht] at hP1
  obtain ⟨hP, hD⟩ := va_join (wr := [oc h 9 [.ref h_s, .ref h_images, .int kept, .ref h_tape, .int typed, .ref h_draft, .int atv, .ref h_items, .ref h_moved, .ref h_sizes, .ref h_lanes, .ref h_less, .ref h_aside, .ref h_order], ai G h_s 161 sv]) (w1 := []) hP hD [] [0, 1] rfl rfl (by decide) (by decide) hk1 hFc hP1 hD1
  clear hPc hDc hFc hP1 hD1 hz1 hk1 hvm
  generalize H1 = H at hP hS ⊢
  have hP : va_P G.1 gCl [oc h 9 [.ref h_s, .ref h_images, .int kept, .ref h_tape, .int typed, .ref h_draft, .int atv, .ref h_items, .ref h_moved, .ref h_sizes, .ref h_lanes, .ref h_less, .ref h_aside, .ref h_order], ai G h_s 161 sv] H := hP
  have hD : va_D A [oc h 9 [.ref h_s, .ref h_images, .int kept, .ref h_tape, .int typed, .ref h_draft, .int atv, .ref h_items, .ref h_moved, .ref h_sizes, .ref h_lanes, .ref h_less, .ref h_aside, .ref h_order], ai G h_s 161 sv] := hD
  refine lv_if_eq (tgt := 28) hx hb dX9_onSeat_13 (by decide) (fun c_2 => ?_) (fun c_2 => ?_)
  · replace hw := hw.1 c_2
    refine lv_bipush (v := (-4 : Int32)) hx hb dX9_onSeat_28 (by decide) ?_
    have hP9 := hP
    have hD9 := hD
    exact W.iret (v := (-4 : Int32)) hx hb hr (fun t ht hW => ⟨⟨(-4 : Int32), (), rfl, hw, by rw [ht]; exact hP9, hD9⟩, hS.F ht⟩) hS.2.2 dX9_onSeat_30
  · replace hw := hw.2 c_2
    refine lv_aload_n hx hb dX9_onSeat_16 rfl (lv_at hl 0 rfl) ?_
    refine va_get (D := G.1) (ci := 9) (v := .ref h_s) (C := RX9) (T := TX9) (N := 14) hx hb hts in_X9 hown hK.1 hP 0 rfl rfl 0 (by decide) (hts _ q817) (fun _ h9 => h9) rfl dX9_onSeat_17 ?_
    refine lv_bipush (v := (10 : Int32)) hx hb dX9_onSeat_20 (by decide) ?_
    refine lv_iload_n hx hb dX9_onSeat_22 rfl (lv_at hl 1 rfl) ?_
    refine lv_iadd hx hb dX9_onSeat_23 ?_
    obtain ⟨i_3, hw⟩ := hw
    refine z_iald hx hb hK.1 hP 1 0 rfl rfl i_3 dX9_onSeat_24 (k := (((10 : Int32) + p1)).toNatClampNeg) rfl ?_
    refine lv_goto (tgt := 30) hx hb dX9_onSeat_25 (by decide) ?_
    have hP9 := hP
    have hD9 := hD
    exact W.iret (v := (sv (((10 : Int32) + p1)).toNatClampNeg)) hx hb hr (fun t ht hW => ⟨⟨(sv (((10 : Int32) + p1)).toNatClampNeg), (), rfl, hw, by rw [ht]; exact hP9, hD9⟩, hS.F ht⟩) hS.2.2 dX9_onSeat_30
/-! BattleBenchModel.allSitBy(I)I -/
def wp_X9_allSitBy (sv : Nat → Int32) (p1 : Int32) (Q : Int32 → Prop) : Prop :=
  wp_X9_seatOf sv p1 (fun r_1 => ((¬ (r_1 = (-4 : Int32)) → wp_X9_onSeat sv (r_1 - (1 : Int32)) (fun r_3 => wp_X9_onSeat sv (r_1 + (1 : Int32)) (fun r_4 => ((¬ (r_3 = (-4 : Int32)) → ((¬ (r_4 = (-4 : Int32)) → Q (((1 : Int32) <<< (r_3 &&& 31)) ||| ((1 : Int32) <<< (r_4 &&& 31)))) ∧ ((r_4 = (-4 : Int32)) → Q (((1 : Int32) <<< (r_3 &&& 31)) ||| (0 : Int32))))) ∧ ((r_3 = (-4 : Int32)) → ((¬ (r_4 = (-4 : Int32)) → Q ((0 : Int32) ||| ((1 : Int32) <<< (r_4 &&& 31)))) ∧ ((r_4 = (-4 : Int32)) → Q ((0 : Int32) ||| (0 : Int32))))))))) ∧ ((r_1 = (-4 : Int32)) → Q (0 : Int32))))
set_option maxHeartbeats 4000000 in
theorem mt_X9_allSitBy (l : Launch) (G : GT) (h h_s h_images h_tape h_draft h_items h_moved h_sizes h_lanes h_less h_aside h_order : Nat) (sz : Nat) (kept : Int32) (typed : Int32) (atv : Int32) (sv : Nat → Int32) (p1 : Int32) (Q : Int32 → Prop) (hw : wp_X9_allSitBy sv p1 Q) : Met l yX9_allSitBy (ws_ yX9_allSitBy cX9_allSitBy 5 (some .int)) ({ frames := 2, cells := 0, slots := 0, locals := 43 } : Room) (va_Pc [.ref h, .int p1] (fun U => U.heap.size = sz ∧ va_P G.1 gCl [oc h 9 [.ref h_s, .ref h_images, .int kept, .ref h_tape, .int typed, .ref h_draft, .int atv, .ref h_items, .ref h_moved, .ref h_sizes, .ref h_lanes, .ref h_less, .ref h_aside, .ref h_order], ai G h_s 161 sv] U.heap ∧ gK G U ∧ va_D (fun _ => True) [oc h 9 [.ref h_s, .ref h_images, .int kept, .ref h_tape, .int typed, .ref h_draft, .int atv, .ref h_items, .ref h_moved, .ref h_sizes, .ref h_lanes, .ref h_less, .ref h_aside, .ref h_order], ai G h_s 161 sv])) ((fun A => (va_Qi (fun (r : Int32) (u : Unit) => Q r ) (fun u t => va_P G.1 gCl [oc h 9 [.ref h_s, .ref h_images, .int kept, .ref h_tape, .int typed, .ref h_draft, .int atv, .ref h_items, .ref h_moved, .ref h_sizes, .ref h_lanes, .ref h_less, .ref h_aside, .ref h_order], ai G h_s 161 sv] t.heap ∧ va_D A [oc h 9 [.ref h_s, .ref h_images, .int kept, .ref h_tape, .int typed, .ref h_draft, .int atv, .ref h_items, .ref h_moved, .ref h_sizes, .ref h_lanes, .ref h_less, .ref h_aside, .ref h_order], ai G h_s 161 sv]) A)) (va_A [oc h 9 [.ref h_s, .ref h_images, .int kept, .ref h_tape, .int typed, .ref h_draft, .int atv, .ref h_items, .ref h_moved, .ref h_sizes, .ref h_lanes, .ref h_less, .ref h_aside, .ref h_order], ai G h_s 161 sv] sz)) 0 0 (va_A [oc h 9 [.ref h_s, .ref h_images, .int kept, .ref h_tape, .int typed, .ref h_draft, .int atv, .ref h_items, .ref h_moved, .ref h_sizes, .ref h_lanes, .ref h_less, .ref h_aside, .ref h_order], ai G h_s 161 sv] sz) := by
  refine Met.ofW (cc := cX9_allSitBy) (maxL := 5) (ret := (some .int)) (by decide) rfl ?_
  intro p e s m args below meth c s₁ B hml hv
  obtain ⟨rfl, hsz, hP, hK, hD0⟩ := hv
  have hx := B.exec
  have hb := B.bytes
  have hr := B.returns
  have hts := atoms_spec (ws := (ws_ yX9_allSitBy cX9_allSitBy 5 (some .int))) B.pre
  have hts : ∀ w ∈ lw_all, w.before _ s = true := fun w h => hts w (List.mem_cons_of_mem _ h)
  have hown : s.vm.findClass RX9 = some m.cls := findClass_of_methodNamed B.named
  have hlocks := B.notSynchronized
  subst hsz
  have hD := hD0.self (sz := s.heap.size)
  generalize hAe : va_A [oc h 9 [.ref h_s, .ref h_images, .int kept, .ref h_tape, .int typed, .ref h_draft, .int atv, .ref h_items, .ref h_moved, .ref h_sizes, .ref h_lanes, .ref h_less, .ref h_aside, .ref h_order], ai G h_s 161 sv] s.heap.size = A at hD ⊢
  have hA : ∀ q : Nat, s.heap.size ≤ q → A q := fun q h => by rw [← hAe]; exact Or.inr h
  have hS : va_S A s.heap s.heap [] := va_S.rf
  have C : Cx p s m meth c cX9_allSitBy 5 (some .int) RX9 ([.ref h, .int p1] : List Value).toArray G A := ⟨hx, hb, hr, hlocks, hml, hown, hts, hK, hA⟩
  have hl := lv_entry ([.ref h, .int p1]) (n := 5) (Nat.le_of_ble_eq_true rfl)
  rw [lg_entry_eq]
  generalize (lg_sl ([.ref h, .int p1]) ++ List.replicate (5 - (lg_sl ([.ref h, .int p1])).length) Slot.unset).toArray = ls at hl ⊢
  have hl : lv_has ls 5 [(0, .ref h), (1, .int p1)] := hl
  unfold wp_X9_allSitBy at hw
  refine lv_aload_n hx hb dX9_allSitBy_0 rfl (lv_at hl 0 rfl) ?_
  refine lv_iload_n hx hb dX9_allSitBy_1 rfl (lv_at hl 1 rfl) ?_
  have hPc := hP.sub (ws' := [oc h 9 [.ref h_s, .ref h_images, .int kept, .ref h_tape, .int typed, .ref h_draft, .int atv, .ref h_items, .ref h_moved, .ref h_sizes, .ref h_lanes, .ref h_less, .ref h_aside, .ref h_order], ai G h_s 161 sv]) [0, 1] rfl
  have hDc := hD.sub (ws' := [oc h 9 [.ref h_s, .ref h_images, .int kept, .ref h_tape, .int typed, .ref h_draft, .int atv, .ref h_items, .ref h_moved, .ref h_sizes, .ref h_lanes, .ref h_less, .ref h_aside, .ref h_order], ai G h_s 161 sv]) [0, 1] (by decide) rfl
  have hFc := va_free (wc := [oc h 9 [.ref h_s, .ref h_images, .int kept, .ref h_tape, .int typed, .ref h_draft, .int atv, .ref h_items, .ref h_moved, .ref h_sizes, .ref h_lanes, .ref h_less, .ref h_aside, .ref h_order], ai G h_s 161 sv]) hD hS hA [0, 1] rfl
  refine va_calli (va_runV (As := [.int p1]) (rest := []) ⟨hx, hb, hml, hown, hts⟩ (mt_X9_seatOf l G h h_s h_images h_tape h_draft h_items h_moved h_sizes h_lanes h_less h_aside h_order s.heap.size kept typed atv sv p1 _ hw) (cwV 1 hts (lw_V q883 q885 qs28 q65 q886) rfl rfl rfl (by decide +kernel) ⟨Nat.le_of_ble_eq_true rfl, Nat.le_of_ble_eq_true rfl⟩) ⟨fun a U g mk q => by obtain ⟨q0, q1, qP, qK, qD⟩ := q; exact ⟨q0, q1, qP, qK.call, qD⟩, va_recv hK.1 hP (ci := 9) (q0 := 0) rfl rfl, fun U hU hW => ⟨rfl, by rw [hU], by rw [hU]; exact hPc, hK.warm hW, hDc.weaken (fun _ _ _ _ => trivial)⟩⟩ rfl rfl hl.1 rfl (lv_room (Nat.le_of_ble_eq_true rfl)) dX9_allSitBy_2 ⟨Nat.le_of_ble_eq_true rfl, Nat.le_of_ble_eq_true rfl⟩) hS (fun q _ h => hFc q h) hFc (fun r_1 _ t H1 locs ht hvm hw hB hz1 hk1 hS => ?_)
  obtain ⟨hP1, hD1⟩ := hB
  rw [ht] at hP1
  obtain ⟨hP, hD⟩ := va_join (wr := []) (w1 := [oc h 9 [.ref h_s, .ref h_images, .int kept, .ref h_tape, .int typed, .ref h_draft, .int atv, .ref h_items, .ref h_moved, .ref h_sizes, .ref h_lanes, .ref h_less, .ref h_aside, .ref h_order], ai G h_s 161 sv]) hP hD [0, 1] [] rfl rfl (by decide) (by decide) hk1 hFc hP1 hD1
  clear hPc hDc hFc hP1 hD1 hz1 hk1 hvm
  generalize H1 = H at hP hS ⊢
  have hP : va_P G.1 gCl [oc h 9 [.ref h_s, .ref h_images, .int kept, .ref h_tape, .int typed, .ref h_draft, .int atv, .ref h_items, .ref h_moved, .ref h_sizes, .ref h_lanes, .ref h_less, .ref h_aside, .ref h_order], ai G h_s 161 sv] H := hP
  have hD : va_D A [oc h 9 [.ref h_s, .ref h_images, .int kept, .ref h_tape, .int typed, .ref h_draft, .int atv, .ref h_items, .ref h_moved, .ref h_sizes, .ref h_lanes, .ref h_less, .ref h_aside, .ref h_order], ai G h_s 161 sv] := hD
  refine lv_istore_n (lv' := [(2, .int r_1), (0, .ref h), (1, .int p1)]) hx hb dX9_allSitBy_5 rfl hl (by decide) rfl (fun ls hl => ?_)
  refine lv_iload_n hx hb dX9_allSitBy_6 rfl (lv_at hl 0 rfl) ?_
  refine lv_bipush (v := (-4 : Int32)) hx hb dX9_allSitBy_7 (by decide) ?_
  refine lv_icmp_ne (tgt := 14) hx hb dX9_allSitBy_9 (by decide) (fun c_2 => ?_) (fun c_2 => ?_)
  · replace hw := hw.1 c_2
    refine lv_aload_n hx hb dX9_allSitBy_14 rfl (lv_at hl 1 rfl) ?_
    refine lv_iload_n hx hb dX9_allSitBy_15 rfl (lv_at hl 0 rfl) ?_
    refine lv_iconst (v := (1 : Int32)) hx hb dX9_allSitBy_16 (by decide) ?_
    refine lv_isub hx hb dX9_allSitBy_17 ?_
    have hPc := hP.sub (ws' := [oc h 9 [.ref h_s, .ref h_images, .int kept, .ref h_tape, .int typed, .ref h_draft, .int atv, .ref h_items, .ref h_moved, .ref h_sizes, .ref h_lanes, .ref h_less, .ref h_aside, .ref h_order], ai G h_s 161 sv]) [0, 1] rfl
    have hDc := hD.sub (ws' := [oc h 9 [.ref h_s, .ref h_images, .int kept, .ref h_tape, .int typed, .ref h_draft, .int atv, .ref h_items, .ref h_moved, .ref h_sizes, .ref h_lanes, .ref h_less, .ref h_aside, .ref h_order], ai G h_s 161 sv]) [0, 1] (by decide) rfl
    have hFc := va_free (wc := [oc h 9 [.ref h_s, .ref h_images, .int kept, .ref h_tape, .int typed, .ref h_draft, .int atv, .ref h_items, .ref h_moved, .ref h_sizes, .ref h_lanes, .ref h_less, .ref h_aside, .ref h_order], ai G h_s 161 sv]) hD hS hA [0, 1] rfl
    refine va_calli (va_runV (As := [.int (r_1 - (1 : Int32))]) (rest := []) ⟨hx, hb, hml, hown, hts⟩ (mt_X9_onSeat l G h h_s h_images h_tape h_draft h_items h_moved h_sizes h_lanes h_less h_aside h_order H.size kept typed atv sv (r_1 - (1 : Int32)) _ hw) (cwV 1 hts (lw_V q899 q901 qs32 q65 q902) rfl rfl rfl (by decide +kernel) ⟨Nat.le_of_ble_eq_true rfl, Nat.le_of_ble_eq_true rfl⟩) ⟨fun a U g mk q => by obtain ⟨q0, q1, qP, qK, qD⟩ := q; exact ⟨q0, q1, qP, qK.call, qD⟩, va_recv hK.1 hP (ci := 9) (q0 := 0) rfl rfl, fun U hU hW => ⟨rfl, by rw [hU], by rw [hU]; exact hPc, hK.warm hW, hDc.weaken (fun _ _ _ _ => trivial)⟩⟩ rfl rfl hl.1 rfl (lv_room (Nat.le_of_ble_eq_true rfl)) dX9_allSitBy_18 ⟨Nat.le_of_ble_eq_true rfl, Nat.le_of_ble_eq_true rfl⟩) hS (fun q _ h => hFc q h) hFc (fun r_3 _ t H1 locs ht hvm hw hB hz1 hk1 hS => ?_)
    obtain ⟨hP1, hD1⟩ := hB
    rw [ht] at hP1
    obtain ⟨hP, hD⟩ := va_join (wr := []) (w1 := [oc h 9 [.ref h_s, .ref h_images, .int kept, .ref h_tape, .int typed, .ref h_draft, .int atv, .ref h_items, .ref h_moved, .ref h_sizes, .ref h_lanes, .ref h_less, .ref h_aside, .ref h_order], ai G h_s 161 sv]) hP hD [0, 1] [] rfl rfl (by decide) (by decide) hk1 hFc hP1 hD1
    clear hPc hDc hFc hP1 hD1 hz1 hk1 hvm
    generalize H1 = H at hP hS ⊢
    have hP : va_P G.1 gCl [oc h 9 [.ref h_s, .ref h_images, .int kept, .ref h_tape, .int typed, .ref h_draft, .int atv, .ref h_items, .ref h_moved, .ref h_sizes, .ref h_lanes, .ref h_less, .ref h_aside, .ref h_order], ai G h_s 161 sv] H := hP
    have hD : va_D A [oc h 9 [.ref h_s, .ref h_images, .int kept, .ref h_tape, .int typed, .ref h_draft, .int atv, .ref h_items, .ref h_moved, .ref h_sizes, .ref h_lanes, .ref h_less, .ref h_aside, .ref h_order], ai G h_s 161 sv] := hD
    refine lv_istore_n (lv' := [(3, .int r_3), (2, .int r_1), (0, .ref h), (1, .int p1)]) hx hb dX9_allSitBy_21 rfl hl (by decide) rfl (fun ls hl => ?_)
    refine lv_aload_n hx hb dX9_allSitBy_22 rfl (lv_at hl 2 rfl) ?_
    refine lv_iload_n hx hb dX9_allSitBy_23 rfl (lv_at hl 1 rfl) ?_
    refine lv_iconst (v := (1 : Int32)) hx hb dX9_allSitBy_24 (by decide) ?_
    refine lv_iadd hx hb dX9_allSitBy_25 ?_
    have hPc := hP.sub (ws' := [oc h 9 [.ref h_s, .ref h_images, .int kept, .ref h_tape, .int typed, .ref h_draft, .int atv, .ref h_items, .ref h_moved, .ref h_sizes, .ref h_lanes, .ref h_less, .ref h_aside, .ref h_order], ai G h_s 161 sv]) [0, 1] rfl
    have hDc := hD.sub (ws' := [oc h 9 [.ref h_s, .ref h_images, .int kept, .ref h_tape, .int typed, .ref h_draft, .int atv, .ref h_items, .ref h_moved, .ref h_sizes, .ref h_lanes, .ref h_less, .ref h_aside, .ref h_order], ai G h_s 161 sv]) [0, 1] (by decide) rfl
    have hFc := va_free (wc := [oc h 9 [.ref h_s, .ref h_images, .int kept, .ref h_tape, .int typed, .ref h_draft, .int atv, .ref h_items, .ref h_moved, .ref h_sizes, .ref h_lanes, .ref h_less, .ref h_aside, .ref h_order], ai G h_s 161 sv]) hD hS hA [0, 1] rfl
    refine va_calli (va_runV (As := [.int (r_1 + (1 : Int32))]) (rest := []) ⟨hx, hb, hml, hown, hts⟩ (mt_X9_onSeat l G h h_s h_images h_tape h_draft h_items h_moved h_sizes h_lanes h_less h_aside h_order H.size kept typed atv sv (r_1 + (1 : Int32)) _ hw) (cwV 1 hts (lw_V q899 q901 qs32 q65 q902) rfl rfl rfl (by decide +kernel) ⟨Nat.le_of_ble_eq_true rfl, Nat.le_of_ble_eq_true rfl⟩) ⟨fun a U g mk q => by obtain ⟨q0, q1, qP, qK, qD⟩ := q; exact ⟨q0, q1, qP, qK.call, qD⟩, va_recv hK.1 hP (ci := 9) (q0 := 0) rfl rfl, fun U hU hW => ⟨rfl, by rw [hU], by rw [hU]; exact hPc, hK.warm hW, hDc.weaken (fun _ _ _ _ => trivial)⟩⟩ rfl rfl hl.1 rfl (lv_room (Nat.le_of_ble_eq_true rfl)) dX9_allSitBy_26 ⟨Nat.le_of_ble_eq_true rfl, Nat.le_of_ble_eq_true rfl⟩) hS (fun q _ h => hFc q h) hFc (fun r_4 _ t H1 locs ht hvm hw hB hz1 hk1 hS => ?_)
    obtain ⟨hP1, hD1⟩ := hB
    rw [ht] at hP1
    obtain ⟨hP, hD⟩ := va_join (wr := []) (w1 := [oc h 9 [.ref h_s, .ref h_images, .int kept, .ref h_tape, .int typed, .ref h_draft, .int atv, .ref h_items, .ref h_moved, .ref h_sizes, .ref h_lanes, .ref h_less, .ref h_aside, .ref h_order], ai G h_s 161 sv]) hP hD [0, 1] [] rfl rfl (by decide) (by decide) hk1 hFc hP1 hD1
    clear hPc hDc hFc hP1 hD1 hz1 hk1 hvm
    generalize H1 = H at hP hS ⊢
    have hP : va_P G.1 gCl [oc h 9 [.ref h_s, .ref h_images, .int kept, .ref h_tape, .int typed, .ref h_draft, .int atv, .ref h_items, .ref h_moved, .ref h_sizes, .ref h_lanes, .ref h_less, .ref h_aside, .ref h_order], ai G h_s 161 sv] H := hP
    have hD : va_D A [oc h 9 [.ref h_s, .ref h_images, .int kept, .ref h_tape, .int typed, .ref h_draft, .int atv, .ref h_items, .ref h_moved, .ref h_sizes, .ref h_lanes, .ref h_less, .ref h_aside, .ref h_order], ai G h_s 161 sv] := hD
    refine lv_istore (lv' := [(4, .int r_4), (3, .int r_3), (2, .int r_1), (0, .ref h), (1, .int p1)]) hx hb dX9_allSitBy_29 hl (by decide) rfl (fun ls hl => ?_)
    refine lv_iload_n hx hb dX9_allSitBy_31 rfl (lv_at hl 1 rfl) ?_
    refine lv_bipush (v := (-4 : Int32)) hx hb dX9_allSitBy_32 (by decide) ?_
    refine lv_icmp_ne (tgt := 41) hx hb dX9_allSitBy_34 (by decide) (fun c_5 => ?_) (fun c_5 => ?_)
    · replace hw := hw.1 c_5
      refine lv_iconst (v := (1 : Int32)) hx hb dX9_allSitBy_41 (by decide) ?_
      refine lv_iload_n hx hb dX9_allSitBy_42 rfl (lv_at hl 1 rfl) ?_
      refine lv_ishl hx hb dX9_allSitBy_43 ?_
      refine lv_iload hx hb dX9_allSitBy_44 (lv_at hl 0 rfl) ?_
      refine lv_bipush (v := (-4 : Int32)) hx hb dX9_allSitBy_46 (by decide) ?_
      refine lv_icmp_ne (tgt := 55) hx hb dX9_allSitBy_48 (by decide) (fun c_6 => ?_) (fun c_6 => ?_)
      · replace hw := hw.1 c_6
        refine lv_iconst (v := (1 : Int32)) hx hb dX9_allSitBy_55 (by decide) ?_
        refine lv_iload hx hb dX9_allSitBy_56 (lv_at hl 0 rfl) ?_
        refine lv_ishl hx hb dX9_allSitBy_58 ?_
        refine lv_ior hx hb dX9_allSitBy_59 ?_
        have hP9 := hP
        have hD9 := hD
        exact W.iret (v := (((1 : Int32) <<< (r_3 &&& 31)) ||| ((1 : Int32) <<< (r_4 &&& 31)))) hx hb hr (fun t ht hW => ⟨⟨(((1 : Int32) <<< (r_3 &&& 31)) ||| ((1 : Int32) <<< (r_4 &&& 31))), (), rfl, hw, by rw [ht]; exact hP9, hD9⟩, hS.F ht⟩) hS.2.2 dX9_allSitBy_60
      · replace hw := hw.2 c_6
        refine lv_iconst (v := (0 : Int32)) hx hb dX9_allSitBy_51 (by decide) ?_
        refine lv_goto (tgt := 59) hx hb dX9_allSitBy_52 (by decide) ?_
        refine lv_ior hx hb dX9_allSitBy_59 ?_
        have hP9 := hP
        have hD9 := hD
        exact W.iret (v := (((1 : Int32) <<< (r_3 &&& 31)) ||| (0 : Int32))) hx hb hr (fun t ht hW => ⟨⟨(((1 : Int32) <<< (r_3 &&& 31)) ||| (0 : Int32)), (), rfl, hw, by rw [ht]; exact hP9, hD9⟩, hS.F ht⟩) hS.2.2 dX9_allSitBy_60
    · replace hw := hw.2 c_5
      refine lv_iconst (v := (0 : Int32)) hx hb dX9_allSitBy_37 (by decide) ?_
      refine lv_goto (tgt := 44) hx hb dX9_allSitBy_38 (by decide) ?_
      refine lv_iload hx hb dX9_allSitBy_44 (lv_at hl 0 rfl) ?_
      refine lv_bipush (v := (-4 : Int32)) hx hb dX9_allSitBy_46 (by decide) ?_
      refine lv_icmp_ne (tgt := 55) hx hb dX9_allSitBy_48 (by decide) (fun c_7 => ?_) (fun c_7 => ?_)
      · replace hw := hw.1 c_7
        refine lv_iconst (v := (1 : Int32)) hx hb dX9_allSitBy_55 (by decide) ?_
        refine lv_iload hx hb dX9_allSitBy_56 (lv_at hl 0 rfl) ?_
        refine lv_ishl hx hb dX9_allSitBy_58 ?_
        refine lv_ior hx hb dX9_allSitBy_59 ?_
        have hP9 := hP
        have hD9 := hD
        exact W.iret (v := ((0 : Int32) ||| ((1 : Int32) <<< (r_4 &&& 31)))) hx hb hr (fun t ht hW => ⟨⟨((0 : Int32) ||| ((1 : Int32) <<< (r_4 &&& 31))), (), rfl, hw, by rw [ht]; exact hP9, hD9⟩, hS.F ht⟩) hS.2.2 dX9_allSitBy_60
      · replace hw := hw.2 c_7
        refine lv_iconst (v := (0 : Int32)) hx hb dX9_allSitBy_51 (by decide) ?_
        refine lv_goto (tgt := 59) hx hb dX9_allSitBy_52 (by decide) ?_
        refine lv_ior hx hb dX9_allSitBy_59 ?_
        have hP9 := hP
        have hD9 := hD
        exact W.iret (v := ((0 : Int32) ||| (0 : Int32))) hx hb hr (fun t ht hW => ⟨⟨((0 : Int32) ||| (0 : Int32)), (), rfl, hw, by rw [ht]; exact hP9, hD9⟩, hS.F ht⟩) hS.2.2 dX9_allSitBy_60
  · replace hw := hw.2 c_2
    refine lv_iconst (v := (0 : Int32)) hx hb dX9_allSitBy_12 (by decide) ?_
    have hP9 := hP
    have hD9 := hD
    exact W.iret (v := (0 : Int32)) hx hb hr (fun t ht hW => ⟨⟨(0 : Int32), (), rfl, hw, by rw [ht]; exact hP9, hD9⟩, hS.F ht⟩) hS.2.2 dX9_allSitBy_13
/-! BattleBenchModel.ones(I)I -/
def wp_X9_ones_4 (p0 : Int32) (Q : Int32 → Prop)  : Nat → Int32 → Int32 → Prop
  | 0, _, _ => False
  | n + 1, x1, x2 =>
    ((((6 : Int32) ≤ x2) → Q x1) ∧ (¬ ((6 : Int32) ≤ x2) → (∀ v_2 : Int32, v_2 = (x1 + ((p0 >>> (x2 &&& 31)) &&& (1 : Int32))) → wp_X9_ones_4 p0 Q  n v_2 (x2 + (1 : Int32)))))
set_option maxHeartbeats 4000000 in
theorem wk_X9_ones_4 {p : Program} {l : Launch} {e : Env} {s : State} {m : MethodId} {below : List Frame} {meth : Method} {c : Code} {args : Array Value} {G : GT} {A : Nat → Prop}  (p0 : Int32) (Q : Int32 → Prop)  (C : Cx p s m meth c cX9_ones 3 (some .int) RX9 args G A)  :
    ∀ (n : Nat), ∀  (x1 : Int32) (x2 : Int32) (H : Heap) (locs : List Loc), va_P G.1 gCl [] H → va_D A [] → va_S A s.heap H locs → ∀ (ls : Array Slot), lv_has ls 3 [(0, .int p0), (1, .int x1), (2, .int x2)] → wp_X9_ones_4 p0 Q  n x1 x2 → W p l e ({ frames := 0, cells := 0, slots := 0, locals := 0 } : Room) s m args below meth c H locs 0 0 (MQ below (va_Qi (fun (r : Int32) (u : Unit) => Q r ) (fun u t => va_P G.1 gCl [] t.heap ∧ va_D A []) A) args s 0 0 A) (F0 m 4 ls []) := by
  have C9 := C
  obtain ⟨hx, hb, hr, hlocks, hml, hown, hts, hK, hA⟩ := C9
  intro n
  induction n with
  | zero => intro x1 x2 H locs hP hD hS ls hl hw; exact False.elim hw
  | succ n ih =>
    intro x1 x2 H locs hP hD hS ls hl hw
    unfold wp_X9_ones_4 at hw
    refine lv_iload_n hx hb dX9_ones_4 rfl (lv_at hl 2 rfl) ?_
    refine lv_bipush (v := (6 : Int32)) hx hb dX9_ones_5 (by decide) ?_
    refine lv_icmp_ge (tgt := 24) hx hb dX9_ones_7 (by decide) (fun c_1 => ?_) (fun c_1 => ?_)
    · replace hw := hw.1 c_1
      refine lv_iload_n hx hb dX9_ones_24 rfl (lv_at hl 1 rfl) ?_
      have hP9 := hP
      have hD9 := hD
      exact W.iret (v := x1) hx hb hr (fun t ht hW => ⟨⟨x1, (), rfl, hw, by rw [ht]; exact hP9, hD9⟩, hS.F ht⟩) hS.2.2 dX9_ones_25
    · replace hw := hw.2 c_1
      refine lv_iload_n hx hb dX9_ones_10 rfl (lv_at hl 1 rfl) ?_
      refine lv_iload_n hx hb dX9_ones_11 rfl (lv_at hl 0 rfl) ?_
      refine lv_iload_n hx hb dX9_ones_12 rfl (lv_at hl 2 rfl) ?_
      refine lv_ishr hx hb dX9_ones_13 ?_
      refine lv_iconst (v := (1 : Int32)) hx hb dX9_ones_14 (by decide) ?_
      refine lv_iand hx hb dX9_ones_15 ?_
      refine lv_iadd hx hb dX9_ones_16 ?_
      refine lv_topi (fun v_2 ev_2 => ?_)
      replace hw := hw v_2 ev_2
      refine lv_istore_n (lv' := [(1, .int v_2), (0, .int p0), (2, .int x2)]) hx hb dX9_ones_17 rfl hl (by decide) rfl (fun ls hl => ?_)
      refine lv_iinc (v := (x2 + (1 : Int32))) (lv' := [(2, .int (x2 + (1 : Int32))), (1, .int v_2), (0, .int p0)]) hx hb dX9_ones_18 hl (k := 2) rfl rfl (by decide) rfl (fun ls hl => ?_)
      refine lv_goto (tgt := 4) hx hb dX9_ones_21 (by decide) ?_
      exact ih v_2 (x2 + (1 : Int32)) H locs hP hD hS ls (lv_sub hl [2, 1, 0] rfl) hw
def wp_X9_ones (p0 : Int32) (Q : Int32 → Prop) : Prop :=
  (∃ j_ : Nat, wp_X9_ones_4 p0 Q  j_ (0 : Int32) (0 : Int32))
set_option maxHeartbeats 4000000 in
theorem mt_X9_ones (l : Launch) (G : GT)  (sz : Nat) (p0 : Int32) (Q : Int32 → Prop) (hw : wp_X9_ones p0 Q) : Met l yX9_ones (ws_ yX9_ones cX9_ones 3 (some .int)) ({ frames := 0, cells := 0, slots := 0, locals := 0 } : Room) (va_Pc [.int p0] (fun U => U.heap.size = sz ∧ va_P G.1 gCl [] U.heap ∧ gK G U ∧ va_D (fun _ => True) [])) ((fun A => (va_Qi (fun (r : Int32) (u : Unit) => Q r ) (fun u t => va_P G.1 gCl [] t.heap ∧ va_D A []) A)) (va_A [] sz)) 0 0 (va_A [] sz) := by
  refine Met.ofW (cc := cX9_ones) (maxL := 3) (ret := (some .int)) (by decide) rfl ?_
  intro p e s m args below meth c s₁ B hml hv
  obtain ⟨rfl, hsz, hP, hK, hD0⟩ := hv
  have hx := B.exec
  have hb := B.bytes
  have hr := B.returns
  have hts := atoms_spec (ws := (ws_ yX9_ones cX9_ones 3 (some .int))) B.pre
  have hts : ∀ w ∈ lw_all, w.before _ s = true := fun w h => hts w (List.mem_cons_of_mem _ h)
  have hown : s.vm.findClass RX9 = some m.cls := findClass_of_methodNamed B.named
  have hlocks := B.notSynchronized
  subst hsz
  have hD := hD0.self (sz := s.heap.size)
  generalize hAe : va_A [] s.heap.size = A at hD ⊢
  have hA : ∀ q : Nat, s.heap.size ≤ q → A q := fun q h => by rw [← hAe]; exact Or.inr h
  have hS : va_S A s.heap s.heap [] := va_S.rf
  have C : Cx p s m meth c cX9_ones 3 (some .int) RX9 ([.int p0] : List Value).toArray G A := ⟨hx, hb, hr, hlocks, hml, hown, hts, hK, hA⟩
  have hl := lv_entry ([.int p0]) (n := 3) (Nat.le_of_ble_eq_true rfl)
  rw [lg_entry_eq]
  generalize (lg_sl ([.int p0]) ++ List.replicate (3 - (lg_sl ([.int p0])).length) Slot.unset).toArray = ls at hl ⊢
  have hl : lv_has ls 3 [(0, .int p0)] := hl
  unfold wp_X9_ones at hw
  refine lv_iconst (v := (0 : Int32)) hx hb dX9_ones_0 (by decide) ?_
  refine lv_istore_n (lv' := [(1, .int (0 : Int32)), (0, .int p0)]) hx hb dX9_ones_1 rfl hl (by decide) rfl (fun ls hl => ?_)
  refine lv_iconst (v := (0 : Int32)) hx hb dX9_ones_2 (by decide) ?_
  refine lv_istore_n (lv' := [(2, .int (0 : Int32)), (1, .int (0 : Int32)), (0, .int p0)]) hx hb dX9_ones_3 rfl hl (by decide) rfl (fun ls hl => ?_)
  obtain ⟨j_, hw⟩ := hw
  exact wk_X9_ones_4  p0  Q  C  j_ (0 : Int32) (0 : Int32) s.heap [] hP hD hS ls (lv_sub hl [2, 1, 0] rfl) hw
/-! BattleBenchModel.fails(I)I -/
def wp_X9_fails_16 (sv : Nat → Int32) (p1 : Int32) (Q : Int32 → Prop)  (y0 : Int32) : Prop :=
  wp_X9_seatOf sv p1 (fun r_1 => (vp_in ((16 : Int32) + p1) 161 ∧ (∀ k_3 : Int32, k_3 = (sv (((16 : Int32) + p1)).toNatClampNeg) → ((k_3 = (0 : Int32) → Q (2 : Int32)) ∧ (k_3 = (1 : Int32) → Q y0) ∧ (k_3 = (2 : Int32) → Q (4 : Int32)) ∧ (k_3 = (3 : Int32) → (((r_1 = 0) → Q (y0 + (1 : Int32))) ∧ (¬ (r_1 = 0) → ((¬ (r_1 = ((sv 1) - (1 : Int32))) → Q y0) ∧ ((r_1 = ((sv 1) - (1 : Int32))) → Q (y0 + (1 : Int32))))))) ∧ (¬ k_3 = (0 : Int32) ∧ ¬ k_3 = (1 : Int32) ∧ ¬ k_3 = (2 : Int32) ∧ ¬ k_3 = (3 : Int32) → wp_X9_allSitBy sv p1 (fun r_10 => wp_X9_allStoodBy sv p1 (fun r_11 => wp_X9_ones  (r_10 &&& r_11) (fun r_12 => Q ((4 : Int32) - r_12)))))))))
set_option maxHeartbeats 4000000 in
theorem wk_X9_fails_16 {p : Program} {l : Launch} {e : Env} {s : State} {m : MethodId} {below : List Frame} {meth : Method} {c : Code} {args : Array Value} {G : GT} {A : Nat → Prop} (h h_s h_images h_tape h_draft h_items h_moved h_sizes h_lanes h_less h_aside h_order : Nat) (kept : Int32) (typed : Int32) (atv : Int32) (sv : Nat → Int32) (p1 : Int32) (Q : Int32 → Prop)  (C : Cx p s m meth c cX9_fails 4 (some .int) RX9 args G A)  :
    ∀  (y0 : Int32) (H : Heap) (locs : List Loc), va_P G.1 gCl [oc h 9 [.ref h_s, .ref h_images, .int kept, .ref h_tape, .int typed, .ref h_draft, .int atv, .ref h_items, .ref h_moved, .ref h_sizes, .ref h_lanes, .ref h_less, .ref h_aside, .ref h_order], ai G h_s 161 sv] H → va_D A [oc h 9 [.ref h_s, .ref h_images, .int kept, .ref h_tape, .int typed, .ref h_draft, .int atv, .ref h_items, .ref h_moved, .ref h_sizes, .ref h_lanes, .ref h_less, .ref h_aside, .ref h_order], ai G h_s 161 sv] → va_S A s.heap H locs → ∀ (ls : Array Slot), lv_has ls 4 [(0, .ref h), (1, .int p1)] → wp_X9_fails_16 sv p1 Q   y0 → W p l e ({ frames := 3, cells := 0, slots := 0, locals := 67 } : Room) s m args below meth c H locs 0 0 (MQ below (va_Qi (fun (r : Int32) (u : Unit) => Q r ) (fun u t => va_P G.1 gCl [oc h 9 [.ref h_s, .ref h_images, .int kept, .ref h_tape, .int typed, .ref h_draft, .int atv, .ref h_items, .ref h_moved, .ref h_sizes, .ref h_lanes, .ref h_less, .ref h_aside, .ref h_order], ai G h_s 161 sv] t.heap ∧ va_D A [oc h 9 [.ref h_s, .ref h_images, .int kept, .ref h_tape, .int typed, .ref h_draft, .int atv, .ref h_items, .ref h_moved, .ref h_sizes, .ref h_lanes, .ref h_less, .ref h_aside, .ref h_order], ai G h_s 161 sv]) A) args s 0 0 A) (F0 m 16 ls [.int y0]) := by
  have C9 := C
  obtain ⟨hx, hb, hr, hlocks, hml, hown, hts, hK, hA⟩ := C9
  intro y0 H locs hP hD hS ls hl hw
  unfold wp_X9_fails_16 at hw
  refine lv_istore_n (lv' := [(2, .int y0), (0, .ref h), (1, .int p1)]) hx hb dX9_fails_16 rfl hl (by decide) rfl (fun ls hl => ?_)
  refine lv_aload_n hx hb dX9_fails_17 rfl (lv_at hl 1 rfl) ?_
  refine lv_iload_n hx hb dX9_fails_18 rfl (lv_at hl 2 rfl) ?_
  have hPc := hP.sub (ws' := [oc h 9 [.ref h_s, .ref h_images, .int kept, .ref h_tape, .int typed, .ref h_draft, .int atv, .ref h_items, .ref h_moved, .ref h_sizes, .ref h_lanes, .ref h_less, .ref h_aside, .ref h_order], ai G h_s 161 sv]) [0, 1] rfl
  have hDc := hD.sub (ws' := [oc h 9 [.ref h_s, .ref h_images, .int kept, .ref h_tape, .int typed, .ref h_draft, .int atv, .ref h_items, .ref h_moved, .ref h_sizes, .ref h_lanes, .ref h_less, .ref h_aside, .ref h_order], ai G h_s 161 sv]) [0, 1] (by decide) rfl
  have hFc := va_free (wc := [oc h 9 [.ref h_s, .ref h_images, .int kept, .ref h_tape, .int typed, .ref h_draft, .int atv, .ref h_items, .ref h_moved, .ref h_sizes, .ref h_lanes, .ref h_less, .ref h_aside, .ref h_order], ai G h_s 161 sv]) hD hS hA [0, 1] rfl
  refine va_calli (va_runV (As := [.int p1]) (rest := []) ⟨hx, hb, hml, hown, hts⟩ (mt_X9_seatOf l G h h_s h_images h_tape h_draft h_items h_moved h_sizes h_lanes h_less h_aside h_order H.size kept typed atv sv p1 _ hw) (cwV 1 hts (lw_V q883 q885 qs28 q65 q886) rfl rfl rfl (by decide +kernel) ⟨Nat.le_of_ble_eq_true rfl, Nat.le_of_ble_eq_true rfl⟩) ⟨fun a U g mk q => by obtain ⟨q0, q1, qP, qK, qD⟩ := q; exact ⟨q0, q1, qP, qK.call, qD⟩, va_recv hK.1 hP (ci := 9) (q0 := 0) rfl rfl, fun U hU hW => ⟨rfl, by rw [hU], by rw [hU]; exact hPc, hK.warm hW, hDc.weaken (fun _ _ _ _ => trivial)⟩⟩ rfl rfl hl.1 rfl (lv_room (Nat.le_of_ble_eq_true rfl)) dX9_fails_19 ⟨Nat.le_of_ble_eq_true rfl, Nat.le_of_ble_eq_true rfl⟩) hS (fun q _ h => hFc q h) hFc (fun r_1 _ t H1 locs ht hvm hw hB hz1 hk1 hS => ?_)
  obtain ⟨hP1, hD1⟩ := hB
  rw [ht] at hP1
  obtain ⟨hP, hD⟩ := va_join (wr := []) (w1 := [oc h 9 [.ref h_s, .ref h_images, .int kept, .ref h_tape, .int typed, .ref h_draft, .int atv, .ref h_items, .ref h_moved, .ref h_sizes, .ref h_lanes, .ref h_less, .ref h_aside, .ref h_order], ai G h_s 161 sv]) hP hD [0, 1] [] rfl rfl (by decide) (by decide) hk1 hFc hP1 hD1
  clear hPc hDc hFc hP1 hD1 hz1 hk1 hvm
  generalize H1 = H at hP hS ⊢
  have hP : va_P G.1 gCl [oc h 9 [.ref h_s, .ref h_images, .int kept, .ref h_tape, .int typed, .ref h_draft, .int atv, .ref h_items, .ref h_moved, .ref h_sizes, .ref h_lanes, .ref h_less, .ref h_aside, .ref h_order], ai G h_s 161 sv] H := hP
  have hD : va_D A [oc h 9 [.ref h_s, .ref h_images, .int kept, .ref h_tape, .int typed, .ref h_draft, .int atv, .ref h_items, .ref h_moved, .ref h_sizes, .ref h_lanes, .ref h_less, .ref h_aside, .ref h_order], ai G h_s 161 sv] := hD
  refine lv_istore_n (lv' := [(3, .int r_1), (2, .int y0), (0, .ref h), (1, .int p1)]) hx hb dX9_fails_22 rfl hl (by decide) rfl (fun ls hl => ?_)
  refine lv_aload_n hx hb dX9_fails_23 rfl (lv_at hl 2 rfl) ?_
  refine va_get (D := G.1) (ci := 9) (v := .ref h_s) (C := RX9) (T := TX9) (N := 14) hx hb hts in_X9 hown hK.1 hP 0 rfl rfl 0 (by decide) (hts _ q817) (fun _ h9 => h9) rfl dX9_fails_24 ?_
  refine lv_bipush (v := (16 : Int32)) hx hb dX9_fails_27 (by decide) ?_
  refine lv_iload_n hx hb dX9_fails_29 rfl (lv_at hl 3 rfl) ?_
  refine lv_iadd hx hb dX9_fails_30 ?_
  obtain ⟨i_2, hw⟩ := hw
  refine z_iald hx hb hK.1 hP 1 0 rfl rfl i_2 dX9_fails_31 (k := (((16 : Int32) + p1)).toNatClampNeg) rfl ?_
  refine lv_topi (fun k_3 ek_3 => ?_)
  replace hw := hw k_3 ek_3
  by_cases c_4 : k_3 = (0 : Int32)
  · replace hw := hw.1 c_4
    refine z_tabIn (k := (0 : Int32)) (off := 32) (tgt := 64) hx hb dX9_fails_32 c_4 (by decide) rfl (by decide) ?_
    refine lv_iconst (v := (2 : Int32)) hx hb dX9_fails_64 (by decide) ?_
    have hP9 := hP
    have hD9 := hD
    exact W.iret (v := (2 : Int32)) hx hb hr (fun t ht hW => ⟨⟨(2 : Int32), (), rfl, hw, by rw [ht]; exact hP9, hD9⟩, hS.F ht⟩) hS.2.2 dX9_fails_65
  by_cases c_5 : k_3 = (1 : Int32)
  · replace hw := hw.2.1 c_5
    refine z_tabIn (k := (1 : Int32)) (off := 34) (tgt := 66) hx hb dX9_fails_32 c_5 (by decide) rfl (by decide) ?_
    refine lv_iload_n hx hb dX9_fails_66 rfl (lv_at hl 1 rfl) ?_
    have hP9 := hP
    have hD9 := hD
    exact W.iret (v := y0) hx hb hr (fun t ht hW => ⟨⟨y0, (), rfl, hw, by rw [ht]; exact hP9, hD9⟩, hS.F ht⟩) hS.2.2 dX9_fails_67
  by_cases c_6 : k_3 = (2 : Int32)
  · replace hw := hw.2.2.1 c_6
    refine z_tabIn (k := (2 : Int32)) (off := 36) (tgt := 68) hx hb dX9_fails_32 c_6 (by decide) rfl (by decide) ?_
    refine lv_iconst (v := (4 : Int32)) hx hb dX9_fails_68 (by decide) ?_
    have hP9 := hP
    have hD9 := hD
    exact W.iret (v := (4 : Int32)) hx hb hr (fun t ht hW => ⟨⟨(4 : Int32), (), rfl, hw, by rw [ht]; exact hP9, hD9⟩, hS.F ht⟩) hS.2.2 dX9_fails_69
  by_cases c_7 : k_3 = (3 : Int32)
  · replace hw := hw.2.2.2.1 c_7
    refine z_tabIn (k := (3 : Int32)) (off := 38) (tgt := 70) hx hb dX9_fails_32 c_7 (by decide) rfl (by decide) ?_
    refine lv_iload_n hx hb dX9_fails_70 rfl (lv_at hl 0 rfl) ?_
    refine lv_if_eq (tgt := 86) hx hb dX9_fails_71 (by decide) (fun c_8 => ?_) (fun c_8 => ?_)
    · replace hw := hw.1 c_8
      refine lv_iload_n hx hb dX9_fails_86 rfl (lv_at hl 1 rfl) ?_
      refine lv_iconst (v := (1 : Int32)) hx hb dX9_fails_87 (by decide) ?_
      refine lv_iadd hx hb dX9_fails_88 ?_
      refine lv_goto (tgt := 93) hx hb dX9_fails_89 (by decide) ?_
      have hP9 := hP
      have hD9 := hD
      exact W.iret (v := (y0 + (1 : Int32))) hx hb hr (fun t ht hW => ⟨⟨(y0 + (1 : Int32)), (), rfl, hw, by rw [ht]; exact hP9, hD9⟩, hS.F ht⟩) hS.2.2 dX9_fails_93
    · replace hw := hw.2 c_8
      refine lv_iload_n hx hb dX9_fails_74 rfl (lv_at hl 0 rfl) ?_
      refine lv_aload_n hx hb dX9_fails_75 rfl (lv_at hl 2 rfl) ?_
      refine va_get (D := G.1) (ci := 9) (v := .ref h_s) (C := RX9) (T := TX9) (N := 14) hx hb hts in_X9 hown hK.1 hP 0 rfl rfl 0 (by decide) (hts _ q817) (fun _ h9 => h9) rfl dX9_fails_76 ?_
      refine lv_iconst (v := (1 : Int32)) hx hb dX9_fails_79 (by decide) ?_
      refine z_iald hx hb hK.1 hP 1 0 rfl rfl (vin_l (by decide +kernel)) dX9_fails_80 (k := 1) rfl ?_
      refine lv_iconst (v := (1 : Int32)) hx hb dX9_fails_81 (by decide) ?_
      refine lv_isub hx hb dX9_fails_82 ?_
      refine lv_icmp_ne (tgt := 92) hx hb dX9_fails_83 (by decide) (fun c_9 => ?_) (fun c_9 => ?_)
      · replace hw := hw.1 c_9
        refine lv_iload_n hx hb dX9_fails_92 rfl (lv_at hl 1 rfl) ?_
        have hP9 := hP
        have hD9 := hD
        exact W.iret (v := y0) hx hb hr (fun t ht hW => ⟨⟨y0, (), rfl, hw, by rw [ht]; exact hP9, hD9⟩, hS.F ht⟩) hS.2.2 dX9_fails_93
      · replace hw := hw.2 c_9
        refine lv_iload_n hx hb dX9_fails_86 rfl (lv_at hl 1 rfl) ?_
        refine lv_iconst (v := (1 : Int32)) hx hb dX9_fails_87 (by decide) ?_
        refine lv_iadd hx hb dX9_fails_88 ?_
        refine lv_goto (tgt := 93) hx hb dX9_fails_89 (by decide) ?_
        have hP9 := hP
        have hD9 := hD
        exact W.iret (v := (y0 + (1 : Int32))) hx hb hr (fun t ht hW => ⟨⟨(y0 + (1 : Int32)), (), rfl, hw, by rw [ht]; exact hP9, hD9⟩, hS.F ht⟩) hS.2.2 dX9_fails_93
  replace hw := hw.2.2.2.2 ⟨c_4, c_5, c_6, c_7⟩
  refine lv_tableOut (tgt := 94) hx hb dX9_fails_32 (z_tabOut (0) 4 [(0 : Int32), (1 : Int32), (2 : Int32), (3 : Int32)] (by decide +kernel) (List.forall_mem_cons.mpr ⟨c_4, (List.forall_mem_cons.mpr ⟨c_5, (List.forall_mem_cons.mpr ⟨c_6, (List.forall_mem_cons.mpr ⟨c_7, fun _ h9 => absurd h9 List.not_mem_nil⟩)⟩)⟩)⟩)) (by decide) ?_
  refine lv_iconst (v := (4 : Int32)) hx hb dX9_fails_94 (by decide) ?_
  refine lv_aload_n hx hb dX9_fails_95 rfl (lv_at hl 2 rfl) ?_
  refine lv_iload_n hx hb dX9_fails_96 rfl (lv_at hl 3 rfl) ?_
  have hPc := hP.sub (ws' := [oc h 9 [.ref h_s, .ref h_images, .int kept, .ref h_tape, .int typed, .ref h_draft, .int atv, .ref h_items, .ref h_moved, .ref h_sizes, .ref h_lanes, .ref h_less, .ref h_aside, .ref h_order], ai G h_s 161 sv]) [0, 1] rfl
  have hDc := hD.sub (ws' := [oc h 9 [.ref h_s, .ref h_images, .int kept, .ref h_tape, .int typed, .ref h_draft, .int atv, .ref h_items, .ref h_moved, .ref h_sizes, .ref h_lanes, .ref h_less, .ref h_aside, .ref h_order], ai G h_s 161 sv]) [0, 1] (by decide) rfl
  have hFc := va_free (wc := [oc h 9 [.ref h_s, .ref h_images, .int kept, .ref h_tape, .int typed, .ref h_draft, .int atv, .ref h_items, .ref h_moved, .ref h_sizes, .ref h_lanes, .ref h_less, .ref h_aside, .ref h_order], ai G h_s 161 sv]) hD hS hA [0, 1] rfl
  refine va_calli (va_runV (As := [.int p1]) (rest := [.int (4 : Int32)]) ⟨hx, hb, hml, hown, hts⟩ (mt_X9_allSitBy l G h h_s h_images h_tape h_draft h_items h_moved h_sizes h_lanes h_less h_aside h_order H.size kept typed atv sv p1 _ hw) (cwV 1 hts (lw_V q895 q897 qs31 q65 q898) rfl rfl rfl (by decide +kernel) ⟨Nat.le_of_ble_eq_true rfl, Nat.le_of_ble_eq_true rfl⟩) ⟨fun a U g mk q => by obtain ⟨q0, q1, qP, qK, qD⟩ := q; exact ⟨q0, q1, qP, qK.call, qD⟩, va_recv hK.1 hP (ci := 9) (q0 := 0) rfl rfl, fun U hU hW => ⟨rfl, by rw [hU], by rw [hU]; exact hPc, hK.warm hW, hDc.weaken (fun _ _ _ _ => trivial)⟩⟩ rfl rfl hl.1 rfl (lv_room (Nat.le_of_ble_eq_true rfl)) dX9_fails_97 ⟨Nat.le_of_ble_eq_true rfl, Nat.le_of_ble_eq_true rfl⟩) hS (fun q _ h => hFc q h) hFc (fun r_10 _ t H1 locs ht hvm hw hB hz1 hk1 hS => ?_)
  obtain ⟨hP1, hD1⟩ := hB
  rw [ht] at hP1
  obtain ⟨hP, hD⟩ := va_join (wr := []) (w1 := [oc h 9 [.ref h_s, .ref h_images, .int kept, .ref h_tape, .int typed, .ref h_draft, .int atv, .ref h_items, .ref h_moved, .ref h_sizes, .ref h_lanes, .ref h_less, .ref h_aside, .ref h_order], ai G h_s 161 sv]) hP hD [0, 1] [] rfl rfl (by decide) (by decide) hk1 hFc hP1 hD1
  clear hPc hDc hFc hP1 hD1 hz1 hk1 hvm
  generalize H1 = H at hP hS ⊢
  have hP : va_P G.1 gCl [oc h 9 [.ref h_s, .ref h_images, .int kept, .ref h_tape, .int typed, .ref h_draft, .int atv, .ref h_items, .ref h_moved, .ref h_sizes, .ref h_lanes, .ref h_less, .ref h_aside, .ref h_order], ai G h_s 161 sv] H := hP
  have hD : va_D A [oc h 9 [.ref h_s, .ref h_images, .int kept, .ref h_tape, .int typed, .ref h_draft, .int atv, .ref h_items, .ref h_moved, .ref h_sizes, .ref h_lanes, .ref h_less, .ref h_aside, .ref h_order], ai G h_s 161 sv] := hD
  refine lv_aload_n hx hb dX9_fails_100 rfl (lv_at hl 2 rfl) ?_
  refine lv_iload_n hx hb dX9_fails_101 rfl (lv_at hl 3 rfl) ?_
  have hPc := hP.sub (ws' := [oc h 9 [.ref h_s, .ref h_images, .int kept, .ref h_tape, .int typed, .ref h_draft, .int atv, .ref h_items, .ref h_moved, .ref h_sizes, .ref h_lanes, .ref h_less, .ref h_aside, .ref h_order], ai G h_s 161 sv]) [0, 1] rfl
  have hDc := hD.sub (ws' := [oc h 9 [.ref h_s, .ref h_images, .int kept, .ref h_tape, .int typed, .ref h_draft, .int atv, .ref h_items, .ref h_moved, .ref h_sizes, .ref h_lanes, .ref h_less, .ref h_aside, .ref h_order], ai G h_s 161 sv]) [0, 1] (by decide) rfl
  have hFc := va_free (wc := [oc h 9 [.ref h_s, .ref h_images, .int kept, .ref h_tape, .int typed, .ref h_draft, .int atv, .ref h_items, .ref h_moved, .ref h_sizes, .ref h_lanes, .ref h_less, .ref h_aside, .ref h_order], ai G h_s 161 sv]) hD hS hA [0, 1] rfl
  refine va_calli (va_runV (As := [.int p1]) (rest := [.int r_10, .int (4 : Int32)]) ⟨hx, hb, hml, hown, hts⟩ (mt_X9_allStoodBy l G h h_s h_images h_tape h_draft h_items h_moved h_sizes h_lanes h_less h_aside h_order H.size kept typed atv sv p1 _ hw) (cwV 1 hts (lw_V q887 q889 qs29 q65 q890) rfl rfl rfl (by decide +kernel) ⟨Nat.le_of_ble_eq_true rfl, Nat.le_of_ble_eq_true rfl⟩) ⟨fun a U g mk q => by obtain ⟨q0, q1, qP, qK, qD⟩ := q; exact ⟨q0, q1, qP, qK.call, qD⟩, va_recv hK.1 hP (ci := 9) (q0 := 0) rfl rfl, fun U hU hW => ⟨rfl, by rw [hU], by rw [hU]; exact hPc, hK.warm hW, hDc.weaken (fun _ _ _ _ => trivial)⟩⟩ rfl rfl hl.1 rfl (lv_room (Nat.le_of_ble_eq_true rfl)) dX9_fails_102 ⟨Nat.le_of_ble_eq_true rfl, Nat.le_of_ble_eq_true rfl⟩) hS (fun q _ h => hFc q h) hFc (fun r_11 _ t H1 locs ht hvm hw hB hz1 hk1 hS => ?_)
  obtain ⟨hP1, hD1⟩ := hB
  rw [ht] at hP1
  obtain ⟨hP, hD⟩ := va_join (wr := []) (w1 := [oc h 9 [.ref h_s, .ref h_images, .int kept, .ref h_tape, .int typed, .ref h_draft, .int atv, .ref h_items, .ref h_moved, .ref h_sizes, .ref h_lanes, .ref h_less, .ref h_aside, .ref h_order], ai G h_s 161 sv]) hP hD [0, 1] [] rfl rfl (by decide) (by decide) hk1 hFc hP1 hD1
  clear hPc hDc hFc hP1 hD1 hz1 hk1 hvm
  generalize H1 = H at hP hS ⊢
  have hP : va_P G.1 gCl [oc h 9 [.ref h_s, .ref h_images, .int kept, .ref h_tape, .int typed, .ref h_draft, .int atv, .ref h_items, .ref h_moved, .ref h_sizes, .ref h_lanes, .ref h_less, .ref h_aside, .ref h_order], ai G h_s 161 sv] H := hP
  have hD : va_D A [oc h 9 [.ref h_s, .ref h_images, .int kept, .ref h_tape, .int typed, .ref h_draft, .int atv, .ref h_items, .ref h_moved, .ref h_sizes, .ref h_lanes, .ref h_less, .ref h_aside, .ref h_order], ai G h_s 161 sv] := hD
  refine lv_iand hx hb dX9_fails_105 ?_
  have hPc := hP.sub (ws' := []) [] rfl
  have hDc := hD.sub (ws' := []) [] (by decide) rfl
  have hFc := va_free (wc := []) hD hS hA [] rfl
  refine va_calli (va_runS (As := [.int (r_10 &&& r_11)]) (rest := [.int (4 : Int32)]) ⟨hx, hb, hml, hown, hts⟩ (mt_X9_ones l G  H.size  (r_10 &&& r_11) _ hw) (va_cwS 1 hts (lw_S q907 q908 q65 q909) rfl rfl rfl (by decide +kernel) ⟨Nat.le_of_ble_eq_true rfl, Nat.le_of_ble_eq_true rfl⟩) ⟨fun a U g mk q => by obtain ⟨q0, q1, qP, qK, qD⟩ := q; exact ⟨q0, q1, qP, qK.call, qD⟩, fun U hU hW => ⟨rfl, by rw [hU], by rw [hU]; exact hPc, hK.warm hW, hDc.weaken (fun _ _ _ _ => trivial)⟩⟩ rfl rfl hl.1 rfl (lv_room (Nat.le_of_ble_eq_true rfl)) dX9_fails_106 ⟨Nat.le_of_ble_eq_true rfl, Nat.le_of_ble_eq_true rfl⟩) hS (fun q _ h => hFc q h) hFc (fun r_12 _ t H1 locs ht hvm hw hB hz1 hk1 hS => ?_)
  obtain ⟨hP1, hD1⟩ := hB
  rw [ht] at hP1
  obtain ⟨hP, hD⟩ := va_join (wr := [oc h 9 [.ref h_s, .ref h_images, .int kept, .ref h_tape, .int typed, .ref h_draft, .int atv, .ref h_items, .ref h_moved, .ref h_sizes, .ref h_lanes, .ref h_less, .ref h_aside, .ref h_order], ai G h_s 161 sv]) (w1 := []) hP hD [] [0, 1] rfl rfl (by decide) (by decide) hk1 hFc hP1 hD1
  clear hPc hDc hFc hP1 hD1 hz1 hk1 hvm
  generalize H1 = H at hP hS ⊢
  have hP : va_P G.1 gCl [oc h 9 [.ref h_s, .ref h_images, .int kept, .ref h_tape, .int typed, .ref h_draft, .int atv, .ref h_items, .ref h_moved, .ref h_sizes, .ref h_lanes, .ref h_less, .ref h_aside, .ref h_order], ai G h_s 161 sv] H := hP
  have hD : va_D A [oc h 9 [.ref h_s, .ref h_images, .int kept, .ref h_tape, .int typed, .ref h_draft, .int atv, .ref h_items, .ref h_moved, .ref h_sizes, .ref h_lanes, .ref h_less, .ref h_aside, .ref h_order], ai G h_s 161 sv] := hD
  refine lv_isub hx hb dX9_fails_109 ?_
  have hP9 := hP
  have hD9 := hD
  exact W.iret (v := ((4 : Int32) - r_12)) hx hb hr (fun t ht hW => ⟨⟨((4 : Int32) - r_12), (), rfl, hw, by rw [ht]; exact hP9, hD9⟩, hS.F ht⟩) hS.2.2 dX9_fails_110
def wp_X9_fails (sv : Nat → Int32) (p1 : Int32) (Q : Int32 → Prop) : Prop :=
  ((¬ (((sv 2) - (sv 2) / (2 : Int32) * (2 : Int32)) = 0) → wp_X9_fails_16 sv p1 Q  (0 : Int32)) ∧ ((((sv 2) - (sv 2) / (2 : Int32) * (2 : Int32)) = 0) → wp_X9_fails_16 sv p1 Q  (2 : Int32)))
set_option maxHeartbeats 4000000 in
theorem mt_X9_fails (l : Launch) (G : GT) (h h_s h_images h_tape h_draft h_items h_moved h_sizes h_lanes h_less h_aside h_order : Nat) (sz : Nat) (kept : Int32) (typed : Int32) (atv : Int32) (sv : Nat → Int32) (p1 : Int32) (Q : Int32 → Prop) (hw : wp_X9_fails sv p1 Q) : Met l yX9_fails (ws_ yX9_fails cX9_fails 4 (some .int)) ({ frames := 3, cells := 0, slots := 0, locals := 67 } : Room) (va_Pc [.ref h, .int p1] (fun U => U.heap.size = sz ∧ va_P G.1 gCl [oc h 9 [.ref h_s, .ref h_images, .int kept, .ref h_tape, .int typed, .ref h_draft, .int atv, .ref h_items, .ref h_moved, .ref h_sizes, .ref h_lanes, .ref h_less, .ref h_aside, .ref h_order], ai G h_s 161 sv] U.heap ∧ gK G U ∧ va_D (fun _ => True) [oc h 9 [.ref h_s, .ref h_images, .int kept, .ref h_tape, .int typed, .ref h_draft, .int atv, .ref h_items, .ref h_moved, .ref h_sizes, .ref h_lanes, .ref h_less, .ref h_aside, .ref h_order], ai G h_s 161 sv])) ((fun A => (va_Qi (fun (r : Int32) (u : Unit) => Q r ) (fun u t => va_P G.1 gCl [oc h 9 [.ref h_s, .ref h_images, .int kept, .ref h_tape, .int typed, .ref h_draft, .int atv, .ref h_items, .ref h_moved, .ref h_sizes, .ref h_lanes, .ref h_less, .ref h_aside, .ref h_order], ai G h_s 161 sv] t.heap ∧ va_D A [oc h 9 [.ref h_s, .ref h_images, .int kept, .ref h_tape, .int typed, .ref h_draft, .int atv, .ref h_items, .ref h_moved, .ref h_sizes, .ref h_lanes, .ref h_less, .ref h_aside, .ref h_order], ai G h_s 161 sv]) A)) (va_A [oc h 9 [.ref h_s, .ref h_images, .int kept, .ref h_tape, .int typed, .ref h_draft, .int atv, .ref h_items, .ref h_moved, .ref h_sizes, .ref h_lanes, .ref h_less, .ref h_aside, .ref h_order], ai G h_s 161 sv] sz)) 0 0 (va_A [oc h 9 [.ref h_s, .ref h_images, .int kept, .ref h_tape, .int typed, .ref h_draft, .int atv, .ref h_items, .ref h_moved, .ref h_sizes, .ref h_lanes, .ref h_less, .ref h_aside, .ref h_order], ai G h_s 161 sv] sz) := by
  refine Met.ofW (cc := cX9_fails) (maxL := 4) (ret := (some .int)) (by decide) rfl ?_
  intro p e s m args below meth c s₁ B hml hv
  obtain ⟨rfl, hsz, hP, hK, hD0⟩ := hv
  have hx := B.exec
  have hb := B.bytes
  have hr := B.returns
  have hts := atoms_spec (ws := (ws_ yX9_fails cX9_fails 4 (some .int))) B.pre
  have hts : ∀ w ∈ lw_all, w.before _ s = true := fun w h => hts w (List.mem_cons_of_mem _ h)
  have hown : s.vm.findClass RX9 = some m.cls := findClass_of_methodNamed B.named
  have hlocks := B.notSynchronized
  subst hsz
  have hD := hD0.self (sz := s.heap.size)
  generalize hAe : va_A [oc h 9 [.ref h_s, .ref h_images, .int kept, .ref h_tape, .int typed, .ref h_draft, .int atv, .ref h_items, .ref h_moved, .ref h_sizes, .ref h_lanes, .ref h_less, .ref h_aside, .ref h_order], ai G h_s 161 sv] s.heap.size = A at hD ⊢
  have hA : ∀ q : Nat, s.heap.size ≤ q → A q := fun q h => by rw [← hAe]; exact Or.inr h
  have hS : va_S A s.heap s.heap [] := va_S.rf
  have C : Cx p s m meth c cX9_fails 4 (some .int) RX9 ([.ref h, .int p1] : List Value).toArray G A := ⟨hx, hb, hr, hlocks, hml, hown, hts, hK, hA⟩
  have hl := lv_entry ([.ref h, .int p1]) (n := 4) (Nat.le_of_ble_eq_true rfl)
  rw [lg_entry_eq]
  generalize (lg_sl ([.ref h, .int p1]) ++ List.replicate (4 - (lg_sl ([.ref h, .int p1])).length) Slot.unset).toArray = ls at hl ⊢
  have hl : lv_has ls 4 [(0, .ref h), (1, .int p1)] := hl
  unfold wp_X9_fails at hw
  refine lv_aload_n hx hb dX9_fails_0 rfl (lv_at hl 0 rfl) ?_
  refine va_get (D := G.1) (ci := 9) (v := .ref h_s) (C := RX9) (T := TX9) (N := 14) hx hb hts in_X9 hown hK.1 hP 0 rfl rfl 0 (by decide) (hts _ q817) (fun _ h9 => h9) rfl dX9_fails_1 ?_
  refine lv_iconst (v := (2 : Int32)) hx hb dX9_fails_4 (by decide) ?_
  refine z_iald hx hb hK.1 hP 1 0 rfl rfl (vin_l (by decide +kernel)) dX9_fails_5 (k := 2) rfl ?_
  refine lv_iconst (v := (2 : Int32)) hx hb dX9_fails_6 (by decide) ?_
  refine lv_irem hx hb dX9_fails_7 (by decide) ?_
  refine lv_if_ne (tgt := 15) hx hb dX9_fails_8 (by decide) (fun c_1 => ?_) (fun c_1 => ?_)
  · replace hw := hw.1 c_1
    refine lv_iconst (v := (0 : Int32)) hx hb dX9_fails_15 (by decide) ?_
    exact wk_X9_fails_16 h h_s h_images h_tape h_draft h_items h_moved h_sizes h_lanes h_less h_aside h_order kept typed atv sv p1  Q  C  (0 : Int32) s.heap [] hP hD hS ls (lv_sub hl [0, 1] rfl) hw
  · replace hw := hw.2 c_1
    refine lv_iconst (v := (2 : Int32)) hx hb dX9_fails_11 (by decide) ?_
    refine lv_goto (tgt := 16) hx hb dX9_fails_12 (by decide) ?_
    exact wk_X9_fails_16 h h_s h_images h_tape h_draft h_items h_moved h_sizes h_lanes h_less h_aside h_order kept typed atv sv p1  Q  C  (2 : Int32) s.heap [] hP hD hS ls (lv_sub hl [0, 1] rfl) hw
/-! BattleBenchModel.of(II)I -/
def wp_X9_of (sv : Nat → Int32) (p1 : Int32) (p2 : Int32) (Q : Int32 → Prop) : Prop :=
  wp_X9_isMan sv p1 (fun r_1 => (((r_1 = 0) → Q (-1 : Int32)) ∧ (¬ (r_1 = 0) → wp_X9_in  p2 (0 : Int32) (8 : Int32) (fun r_3 => ((¬ (r_3 = 0) → ((p2 = (0 : Int32) → (vp_in ((16 : Int32) + p1) 161 ∧ Q (sv (((16 : Int32) + p1)).toNatClampNeg))) ∧ (p2 = (1 : Int32) → (vp_in ((4 : Int32) + p1) 161 ∧ Q (sv (((4 : Int32) + p1)).toNatClampNeg))) ∧ (p2 = (2 : Int32) → wp_X9_seatOf sv p1 (fun r_10 => Q r_10)) ∧ (p2 = (3 : Int32) → (vp_in ((((22 : Int32) + ((3 : Int32) * p1)) + p2) - (3 : Int32)) 161 ∧ Q (sv (((((22 : Int32) + ((3 : Int32) * p1)) + p2) - (3 : Int32))).toNatClampNeg))) ∧ (p2 = (4 : Int32) → (vp_in ((((22 : Int32) + ((3 : Int32) * p1)) + p2) - (3 : Int32)) 161 ∧ Q (sv (((((22 : Int32) + ((3 : Int32) * p1)) + p2) - (3 : Int32))).toNatClampNeg))) ∧ (p2 = (5 : Int32) → (vp_in ((((22 : Int32) + ((3 : Int32) * p1)) + p2) - (3 : Int32)) 161 ∧ Q (sv (((((22 : Int32) + ((3 : Int32) * p1)) + p2) - (3 : Int32))).toNatClampNeg))) ∧ (p2 = (6 : Int32) → wp_X9_allStoodBy sv p1 (fun r_18 => Q r_18)) ∧ (p2 = (7 : Int32) → wp_X9_allSitBy sv p1 (fun r_20 => Q r_20)) ∧ (p2 = (8 : Int32) → wp_X9_seatOf sv p1 (fun r_22 => ((¬ (r_22 = (-4 : Int32)) → wp_X9_fails sv p1 (fun r_24 => Q r_24)) ∧ ((r_22 = (-4 : Int32)) → Q (0 : Int32))))) ∧ (¬ p2 = (0 : Int32) ∧ ¬ p2 = (1 : Int32) ∧ ¬ p2 = (2 : Int32) ∧ ¬ p2 = (3 : Int32) ∧ ¬ p2 = (4 : Int32) ∧ ¬ p2 = (5 : Int32) ∧ ¬ p2 = (6 : Int32) ∧ ¬ p2 = (7 : Int32) ∧ ¬ p2 = (8 : Int32) → (vp_in ((((22 : Int32) + ((3 : Int32) * p1)) + p2) - (3 : Int32)) 161 ∧ Q (sv (((((22 : Int32) + ((3 : Int32) * p1)) + p2) - (3 : Int32))).toNatClampNeg))))) ∧ ((r_3 = 0) → Q (-1 : Int32)))))))
set_option maxHeartbeats 4000000 in
theorem mt_X9_of (l : Launch) (G : GT) (h h_s h_images h_tape h_draft h_items h_moved h_sizes h_lanes h_less h_aside h_order : Nat) (sz : Nat) (kept : Int32) (typed : Int32) (atv : Int32) (sv : Nat → Int32) (p1 : Int32) (p2 : Int32) (Q : Int32 → Prop) (hw : wp_X9_of sv p1 p2 Q) : Met l yX9_of (ws_ yX9_of cX9_of 3 (some .int)) ({ frames := 4, cells := 0, slots := 0, locals := 90 } : Room) (va_Pc [.ref h, .int p1, .int p2] (fun U => U.heap.size = sz ∧ va_P G.1 gCl [oc h 9 [.ref h_s, .ref h_images, .int kept, .ref h_tape, .int typed, .ref h_draft, .int atv, .ref h_items, .ref h_moved, .ref h_sizes, .ref h_lanes, .ref h_less, .ref h_aside, .ref h_order], ai G h_s 161 sv] U.heap ∧ gK G U ∧ va_D (fun _ => True) [oc h 9 [.ref h_s, .ref h_images, .int kept, .ref h_tape, .int typed, .ref h_draft, .int atv, .ref h_items, .ref h_moved, .ref h_sizes, .ref h_lanes, .ref h_less, .ref h_aside, .ref h_order], ai G h_s 161 sv])) ((fun A => (va_Qi (fun (r : Int32) (u : Unit) => Q r ) (fun u t => va_P G.1 gCl [oc h 9 [.ref h_s, .ref h_images, .int kept, .ref h_tape, .int typed, .ref h_draft, .int atv, .ref h_items, .ref h_moved, .ref h_sizes, .ref h_lanes, .ref h_less, .ref h_aside, .ref h_order], ai G h_s 161 sv] t.heap ∧ va_D A [oc h 9 [.ref h_s, .ref h_images, .int kept, .ref h_tape, .int typed, .ref h_draft, .int atv, .ref h_items, .ref h_moved, .ref h_sizes, .ref h_lanes, .ref h_less, .ref h_aside, .ref h_order], ai G h_s 161 sv]) A)) (va_A [oc h 9 [.ref h_s, .ref h_images, .int kept, .ref h_tape, .int typed, .ref h_draft, .int atv, .ref h_items, .ref h_moved, .ref h_sizes, .ref h_lanes, .ref h_less, .ref h_aside, .ref h_order], ai G h_s 161 sv] sz)) 0 0 (va_A [oc h 9 [.ref h_s, .ref h_images, .int kept, .ref h_tape, .int typed, .ref h_draft, .int atv, .ref h_items, .ref h_moved, .ref h_sizes, .ref h_lanes, .ref h_less, .ref h_aside, .ref h_order], ai G h_s 161 sv] sz) := by
  refine Met.ofW (cc := cX9_of) (maxL := 3) (ret := (some .int)) (by decide) rfl ?_
  intro p e s m args below meth c s₁ B hml hv
  obtain ⟨rfl, hsz, hP, hK, hD0⟩ := hv
  have hx := B.exec
  have hb := B.bytes
  have hr := B.returns
  have hts := atoms_spec (ws := (ws_ yX9_of cX9_of 3 (some .int))) B.pre
  have hts : ∀ w ∈ lw_all, w.before _ s = true := fun w h => hts w (List.mem_cons_of_mem _ h)
  have hown : s.vm.findClass RX9 = some m.cls := findClass_of_methodNamed B.named
  have hlocks := B.notSynchronized
  subst hsz
  have hD := hD0.self (sz := s.heap.size)
  generalize hAe : va_A [oc h 9 [.ref h_s, .ref h_images, .int kept, .ref h_tape, .int typed, .ref h_draft, .int atv, .ref h_items, .ref h_moved, .ref h_sizes, .ref h_lanes, .ref h_less, .ref h_aside, .ref h_order], ai G h_s 161 sv] s.heap.size = A at hD ⊢
  have hA : ∀ q : Nat, s.heap.size ≤ q → A q := fun q h => by rw [← hAe]; exact Or.inr h
  have hS : va_S A s.heap s.heap [] := va_S.rf
  have C : Cx p s m meth c cX9_of 3 (some .int) RX9 ([.ref h, .int p1, .int p2] : List Value).toArray G A := ⟨hx, hb, hr, hlocks, hml, hown, hts, hK, hA⟩
  have hl := lv_entry ([.ref h, .int p1, .int p2]) (n := 3) (Nat.le_of_ble_eq_true rfl)
  rw [lg_entry_eq]
  generalize (lg_sl ([.ref h, .int p1, .int p2]) ++ List.replicate (3 - (lg_sl ([.ref h, .int p1, .int p2])).length) Slot.unset).toArray = ls at hl ⊢
  have hl : lv_has ls 3 [(0, .ref h), (1, .int p1), (2, .int p2)] := hl
  unfold wp_X9_of at hw
  refine lv_aload_n hx hb dX9_of_0 rfl (lv_at hl 0 rfl) ?_
  refine lv_iload_n hx hb dX9_of_1 rfl (lv_at hl 1 rfl) ?_
  have hPc := hP.sub (ws' := [oc h 9 [.ref h_s, .ref h_images, .int kept, .ref h_tape, .int typed, .ref h_draft, .int atv, .ref h_items, .ref h_moved, .ref h_sizes, .ref h_lanes, .ref h_less, .ref h_aside, .ref h_order], ai G h_s 161 sv]) [0, 1] rfl
  have hDc := hD.sub (ws' := [oc h 9 [.ref h_s, .ref h_images, .int kept, .ref h_tape, .int typed, .ref h_draft, .int atv, .ref h_items, .ref h_moved, .ref h_sizes, .ref h_lanes, .ref h_less, .ref h_aside, .ref h_order], ai G h_s 161 sv]) [0, 1] (by decide) rfl
  have hFc := va_free (wc := [oc h 9 [.ref h_s, .ref h_images, .int kept, .ref h_tape, .int typed, .ref h_draft, .int atv, .ref h_items, .ref h_moved, .ref h_sizes, .ref h_lanes, .ref h_less, .ref h_aside, .ref h_order], ai G h_s 161 sv]) hD hS hA [0, 1] rfl
  refine va_calli (va_runV (As := [.int p1]) (rest := []) ⟨hx, hb, hml, hown, hts⟩ (mt_X9_isMan l G h h_s h_images h_tape h_draft h_items h_moved h_sizes h_lanes h_less h_aside h_order s.heap.size kept typed atv sv p1 _ hw) (cwV 1 hts (lw_V q875 q877 qs27 q65 q878) rfl rfl rfl (by decide +kernel) ⟨Nat.le_of_ble_eq_true rfl, Nat.le_of_ble_eq_true rfl⟩) ⟨fun a U g mk q => by obtain ⟨q0, q1, qP, qK, qD⟩ := q; exact ⟨q0, q1, qP, qK.call, qD⟩, va_recv hK.1 hP (ci := 9) (q0 := 0) rfl rfl, fun U hU hW => ⟨rfl, by rw [hU], by rw [hU]; exact hPc, hK.warm hW, hDc.weaken (fun _ _ _ _ => trivial)⟩⟩ rfl rfl hl.1 rfl (lv_room (Nat.le_of_ble_eq_true rfl)) dX9_of_2 ⟨Nat.le_of_ble_eq_true rfl, Nat.le_of_ble_eq_true rfl⟩) hS (fun q _ h => hFc q h) hFc (fun r_1 _ t H1 locs ht hvm hw hB hz1 hk1 hS => ?_)
  obtain ⟨hP1, hD1⟩ := hB
  rw [ht] at hP1
  obtain ⟨hP, hD⟩ := va_join (wr := []) (w1 := [oc h 9 [.ref h_s, .ref h_images, .int kept, .ref h_tape, .int typed, .ref h_draft, .int atv, .ref h_items, .ref h_moved, .ref h_sizes, .ref h_lanes, .ref h_less, .ref h_aside, .ref h_order], ai G h_s 161 sv]) hP hD [0, 1] [] rfl rfl (by decide) (by decide) hk1 hFc hP1 hD1
  clear hPc hDc hFc hP1 hD1 hz1 hk1 hvm
  generalize H1 = H at hP hS ⊢
  have hP : va_P G.1 gCl [oc h 9 [.ref h_s, .ref h_images, .int kept, .ref h_tape, .int typed, .ref h_draft, .int atv, .ref h_items, .ref h_moved, .ref h_sizes, .ref h_lanes, .ref h_less, .ref h_aside, .ref h_order], ai G h_s 161 sv] H := hP
  have hD : va_D A [oc h 9 [.ref h_s, .ref h_images, .int kept, .ref h_tape, .int typed, .ref h_draft, .int atv, .ref h_items, .ref h_moved, .ref h_sizes, .ref h_lanes, .ref h_less, .ref h_aside, .ref h_order], ai G h_s 161 sv] := hD
  refine lv_if_eq (tgt := 18) hx hb dX9_of_5 (by decide) (fun c_2 => ?_) (fun c_2 => ?_)
  · replace hw := hw.1 c_2
    refine lv_iconst (v := (-1 : Int32)) hx hb dX9_of_18 (by decide) ?_
    have hP9 := hP
    have hD9 := hD
    exact W.iret (v := (-1 : Int32)) hx hb hr (fun t ht hW => ⟨⟨(-1 : Int32), (), rfl, hw, by rw [ht]; exact hP9, hD9⟩, hS.F ht⟩) hS.2.2 dX9_of_19
  · replace hw := hw.2 c_2
    refine lv_iload_n hx hb dX9_of_8 rfl (lv_at hl 2 rfl) ?_
    refine lv_iconst (v := (0 : Int32)) hx hb dX9_of_9 (by decide) ?_
    refine lv_bipush (v := (8 : Int32)) hx hb dX9_of_10 (by decide) ?_
    have hPc := hP.sub (ws' := []) [] rfl
    have hDc := hD.sub (ws' := []) [] (by decide) rfl
    have hFc := va_free (wc := []) hD hS hA [] rfl
    refine va_calli (va_runS (As := [.int p2, .int (0 : Int32), .int (8 : Int32)]) (rest := []) ⟨hx, hb, hml, hown, hts⟩ (mt_X9_in l G  H.size  p2 (0 : Int32) (8 : Int32) _ hw) (va_cwS 3 hts (lw_S q864 q865 q65 q866) rfl rfl rfl (by decide +kernel) ⟨Nat.le_of_ble_eq_true rfl, Nat.le_of_ble_eq_true rfl⟩) ⟨fun a U g mk q => by obtain ⟨q0, q1, qP, qK, qD⟩ := q; exact ⟨q0, q1, qP, qK.call, qD⟩, fun U hU hW => ⟨rfl, by rw [hU], by rw [hU]; exact hPc, hK.warm hW, hDc.weaken (fun _ _ _ _ => trivial)⟩⟩ rfl rfl hl.1 rfl (lv_room (Nat.le_of_ble_eq_true rfl)) dX9_of_12 ⟨Nat.le_of_ble_eq_true rfl, Nat.le_of_ble_eq_true rfl⟩) hS (fun q _ h => hFc q h) hFc (fun r_3 _ t H1 locs ht hvm hw hB hz1 hk1 hS => ?_)
    obtain ⟨hP1, hD1⟩ := hB
    rw [ht] at hP1
    obtain ⟨hP, hD⟩ := va_join (wr := [oc h 9 [.ref h_s, .ref h_images, .int kept, .ref h_tape, .int typed, .ref h_draft, .int atv, .ref h_items, .ref h_moved, .ref h_sizes, .ref h_lanes, .ref h_less, .ref h_aside, .ref h_order], ai G h_s 161 sv]) (w1 := []) hP hD [] [0, 1] rfl rfl (by decide) (by decide) hk1 hFc hP1 hD1
    clear hPc hDc hFc hP1 hD1 hz1 hk1 hvm
    generalize H1 = H at hP hS ⊢
    have hP : va_P G.1 gCl [oc h 9 [.ref h_s, .ref h_images, .int kept, .ref h_tape, .int typed, .ref h_draft, .int atv, .ref h_items, .ref h_moved, .ref h_sizes, .ref h_lanes, .ref h_less, .ref h_aside, .ref h_order], ai G h_s 161 sv] H := hP
    have hD : va_D A [oc h 9 [.ref h_s, .ref h_images, .int kept, .ref h_tape, .int typed, .ref h_draft, .int atv, .ref h_items, .ref h_moved, .ref h_sizes, .ref h_lanes, .ref h_less, .ref h_aside, .ref h_order], ai G h_s 161 sv] := hD
    refine lv_if_ne (tgt := 20) hx hb dX9_of_15 (by decide) (fun c_4 => ?_) (fun c_4 => ?_)
    · replace hw := hw.1 c_4
      refine lv_iload_n hx hb dX9_of_20 rfl (lv_at hl 2 rfl) ?_
      by_cases c_5 : p2 = (0 : Int32)
      · replace hw := hw.1 c_5
        refine z_tabIn (k := (0 : Int32)) (off := 51) (tgt := 72) hx hb dX9_of_21 c_5 (by decide) rfl (by decide) ?_
        refine lv_aload_n hx hb dX9_of_72 rfl (lv_at hl 0 rfl) ?_
        refine va_get (D := G.1) (ci := 9) (v := .ref h_s) (C := RX9) (T := TX9) (N := 14) hx hb hts in_X9 hown hK.1 hP 0 rfl rfl 0 (by decide) (hts _ q817) (fun _ h9 => h9) rfl dX9_of_73 ?_
        refine lv_bipush (v := (16 : Int32)) hx hb dX9_of_76 (by decide) ?_
        refine lv_iload_n hx hb dX9_of_78 rfl (lv_at hl 1 rfl) ?_
        refine lv_iadd hx hb dX9_of_79 ?_
        obtain ⟨i_6, hw⟩ := hw
        refine z_iald hx hb hK.1 hP 1 0 rfl rfl i_6 dX9_of_80 (k := (((16 : Int32) + p1)).toNatClampNeg) rfl ?_
        have hP9 := hP
        have hD9 := hD
        exact W.iret (v := (sv (((16 : Int32) + p1)).toNatClampNeg)) hx hb hr (fun t ht hW => ⟨⟨(sv (((16 : Int32) + p1)).toNatClampNeg), (), rfl, hw, by rw [ht]; exact hP9, hD9⟩, hS.F ht⟩) hS.2.2 dX9_of_81
      by_cases c_7 : p2 = (1 : Int32)
      · replace hw := hw.2.1 c_7
        refine z_tabIn (k := (1 : Int32)) (off := 61) (tgt := 82) hx hb dX9_of_21 c_7 (by decide) rfl (by decide) ?_
        refine lv_aload_n hx hb dX9_of_82 rfl (lv_at hl 0 rfl) ?_
        refine va_get (D := G.1) (ci := 9) (v := .ref h_s) (C := RX9) (T := TX9) (N := 14) hx hb hts in_X9 hown hK.1 hP 0 rfl rfl 0 (by decide) (hts _ q817) (fun _ h9 => h9) rfl dX9_of_83 ?_
        refine lv_iconst (v := (4 : Int32)) hx hb dX9_of_86 (by decide) ?_
        refine lv_iload_n hx hb dX9_of_87 rfl (lv_at hl 1 rfl) ?_
        refine lv_iadd hx hb dX9_of_88 ?_
        obtain ⟨i_8, hw⟩ := hw
        refine z_iald hx hb hK.1 hP 1 0 rfl rfl i_8 dX9_of_89 (k := (((4 : Int32) + p1)).toNatClampNeg) rfl ?_
        have hP9 := hP
        have hD9 := hD
        exact W.iret (v := (sv (((4 : Int32) + p1)).toNatClampNeg)) hx hb hr (fun t ht hW => ⟨⟨(sv (((4 : Int32) + p1)).toNatClampNeg), (), rfl, hw, by rw [ht]; exact hP9, hD9⟩, hS.F ht⟩) hS.2.2 dX9_of_90
      by_cases c_9 : p2 = (2 : Int32)
      · replace hw := hw.2.2.1 c_9
        refine z_tabIn (k := (2 : Int32)) (off := 70) (tgt := 91) hx hb dX9_of_21 c_9 (by decide) rfl (by decide) ?_
        refine lv_aload_n hx hb dX9_of_91 rfl (lv_at hl 0 rfl) ?_
        refine lv_iload_n hx hb dX9_of_92 rfl (lv_at hl 1 rfl) ?_
        have hPc := hP.sub (ws' := [oc h 9 [.ref h_s, .ref h_images, .int kept, .ref h_tape, .int typed, .ref h_draft, .int atv, .ref h_items, .ref h_moved, .ref h_sizes, .ref h_lanes, .ref h_less, .ref h_aside, .ref h_order], ai G h_s 161 sv]) [0, 1] rfl
        have hDc := hD.sub (ws' := [oc h 9 [.ref h_s, .ref h_images, .int kept, .ref h_tape, .int typed, .ref h_draft, .int atv, .ref h_items, .ref h_moved, .ref h_sizes, .ref h_lanes, .ref h_less, .ref h_aside, .ref h_order], ai G h_s 161 sv]) [0, 1] (by decide) rfl
        have hFc := va_free (wc := [oc h 9 [.ref h_s, .ref h_images, .int kept, .ref h_tape, .int typed, .ref h_draft, .int atv, .ref h_items, .ref h_moved, .ref h_sizes, .ref h_lanes, .ref h_less, .ref h_aside, .ref h_order], ai G h_s 161 sv]) hD hS hA [0, 1] rfl
        refine va_calli (va_runV (As := [.int p1]) (rest := []) ⟨hx, hb, hml, hown, hts⟩ (mt_X9_seatOf l G h h_s h_images h_tape h_draft h_items h_moved h_sizes h_lanes h_less h_aside h_order H.size kept typed atv sv p1 _ hw) (cwV 1 hts (lw_V q883 q885 qs28 q65 q886) rfl rfl rfl (by decide +kernel) ⟨Nat.le_of_ble_eq_true rfl, Nat.le_of_ble_eq_true rfl⟩) ⟨fun a U g mk q => by obtain ⟨q0, q1, qP, qK, qD⟩ := q; exact ⟨q0, q1, qP, qK.call, qD⟩, va_recv hK.1 hP (ci := 9) (q0 := 0) rfl rfl, fun U hU hW => ⟨rfl, by rw [hU], by rw [hU]; exact hPc, hK.warm hW, hDc.weaken (fun _ _ _ _ => trivial)⟩⟩ rfl rfl hl.1 rfl (lv_room (Nat.le_of_ble_eq_true rfl)) dX9_of_93 ⟨Nat.le_of_ble_eq_true rfl, Nat.le_of_ble_eq_true rfl⟩) hS (fun q _ h => hFc q h) hFc (fun r_10 _ t H1 locs ht hvm hw hB hz1 hk1 hS => ?_)
        obtain ⟨hP1, hD1⟩ := hB
        rw [ht] at hP1
        obtain ⟨hP, hD⟩ := va_join (wr := []) (w1 := [oc h 9 [.ref h_s, .ref h_images, .int kept, .ref h_tape, .int typed, .ref h_draft, .int atv, .ref h_items, .ref h_moved, .ref h_sizes, .ref h_lanes, .ref h_less, .ref h_aside, .ref h_order], ai G h_s 161 sv]) hP hD [0, 1] [] rfl rfl (by decide) (by decide) hk1 hFc hP1 hD1
        clear hPc hDc hFc hP1 hD1 hz1 hk1 hvm
        generalize H1 = H at hP hS ⊢
        have hP : va_P G.1 gCl [oc h 9 [.ref h_s, .ref h_images, .int kept, .ref h_tape, .int typed, .ref h_draft, .int atv, .ref h_items, .ref h_moved, .ref h_sizes, .ref h_lanes, .ref h_less, .ref h_aside, .ref h_order], ai G h_s 161 sv] H := hP
        have hD : va_D A [oc h 9 [.ref h_s, .ref h_images, .int kept, .ref h_tape, .int typed, .ref h_draft, .int atv, .ref h_items, .ref h_moved, .ref h_sizes, .ref h_lanes, .ref h_less, .ref h_aside, .ref h_order], ai G h_s 161 sv] := hD
        have hP9 := hP
        have hD9 := hD
        exact W.iret (v := r_10) hx hb hr (fun t ht hW => ⟨⟨r_10, (), rfl, hw, by rw [ht]; exact hP9, hD9⟩, hS.F ht⟩) hS.2.2 dX9_of_96
      by_cases c_11 : p2 = (3 : Int32)
      · replace hw := hw.2.2.2.1 c_11
        refine z_tabIn (k := (3 : Int32)) (off := 108) (tgt := 129) hx hb dX9_of_21 c_11 (by decide) rfl (by decide) ?_
        refine lv_aload_n hx hb dX9_of_129 rfl (lv_at hl 0 rfl) ?_
        refine va_get (D := G.1) (ci := 9) (v := .ref h_s) (C := RX9) (T := TX9) (N := 14) hx hb hts in_X9 hown hK.1 hP 0 rfl rfl 0 (by decide) (hts _ q817) (fun _ h9 => h9) rfl dX9_of_130 ?_
        refine lv_bipush (v := (22 : Int32)) hx hb dX9_of_133 (by decide) ?_
        refine lv_iconst (v := (3 : Int32)) hx hb dX9_of_135 (by decide) ?_
        refine lv_iload_n hx hb dX9_of_136 rfl (lv_at hl 1 rfl) ?_
        refine lv_imul hx hb dX9_of_137 ?_
        refine lv_iadd hx hb dX9_of_138 ?_
        refine lv_iload_n hx hb dX9_of_139 rfl (lv_at hl 2 rfl) ?_
        refine lv_iadd hx hb dX9_of_140 ?_
        refine lv_iconst (v := (3 : Int32)) hx hb dX9_of_141 (by decide) ?_
        refine lv_isub hx hb dX9_of_142 ?_
        obtain ⟨i_12, hw⟩ := hw
        refine z_iald hx hb hK.1 hP 1 0 rfl rfl i_12 dX9_of_143 (k := (((((22 : Int32) + ((3 : Int32) * p1)) + p2) - (3 : Int32))).toNatClampNeg) rfl ?_
        have hP9 := hP
        have hD9 := hD
        exact W.iret (v := (sv (((((22 : Int32) + ((3 : Int32) * p1)) + p2) - (3 : Int32))).toNatClampNeg)) hx hb hr (fun t ht hW => ⟨⟨(sv (((((22 : Int32) + ((3 : Int32) * p1)) + p2) - (3 : Int32))).toNatClampNeg), (), rfl, hw, by rw [ht]; exact hP9, hD9⟩, hS.F ht⟩) hS.2.2 dX9_of_144
      by_cases c_13 : p2 = (4 : Int32)
      · replace hw := hw.2.2.2.2.1 c_13
        refine z_tabIn (k := (4 : Int32)) (off := 108) (tgt := 129) hx hb dX9_of_21 c_13 (by decide) rfl (by decide) ?_
        refine lv_aload_n hx hb dX9_of_129 rfl (lv_at hl 0 rfl) ?_
        refine va_get (D := G.1) (ci := 9) (v := .ref h_s) (C := RX9) (T := TX9) (N := 14) hx hb hts in_X9 hown hK.1 hP 0 rfl rfl 0 (by decide) (hts _ q817) (fun _ h9 => h9) rfl dX9_of_130 ?_
        refine lv_bipush (v := (22 : Int32)) hx hb dX9_of_133 (by decide) ?_
        refine lv_iconst (v := (3 : Int32)) hx hb dX9_of_135 (by decide) ?_
        refine lv_iload_n hx hb dX9_of_136 rfl (lv_at hl 1 rfl) ?_
        refine lv_imul hx hb dX9_of_137 ?_
        refine lv_iadd hx hb dX9_of_138 ?_
        refine lv_iload_n hx hb dX9_of_139 rfl (lv_at hl 2 rfl) ?_
        refine lv_iadd hx hb dX9_of_140 ?_
        refine lv_iconst (v := (3 : Int32)) hx hb dX9_of_141 (by decide) ?_
        refine lv_isub hx hb dX9_of_142 ?_
        obtain ⟨i_14, hw⟩ := hw
        refine z_iald hx hb hK.1 hP 1 0 rfl rfl i_14 dX9_of_143 (k := (((((22 : Int32) + ((3 : Int32) * p1)) + p2) - (3 : Int32))).toNatClampNeg) rfl ?_
        have hP9 := hP
        have hD9 := hD
        exact W.iret (v := (sv (((((22 : Int32) + ((3 : Int32) * p1)) + p2) - (3 : Int32))).toNatClampNeg)) hx hb hr (fun t ht hW => ⟨⟨(sv (((((22 : Int32) + ((3 : Int32) * p1)) + p2) - (3 : Int32))).toNatClampNeg), (), rfl, hw, by rw [ht]; exact hP9, hD9⟩, hS.F ht⟩) hS.2.2 dX9_of_144
      by_cases c_15 : p2 = (5 : Int32)
      · replace hw := hw.2.2.2.2.2.1 c_15
        refine z_tabIn (k := (5 : Int32)) (off := 108) (tgt := 129) hx hb dX9_of_21 c_15 (by decide) rfl (by decide) ?_
        refine lv_aload_n hx hb dX9_of_129 rfl (lv_at hl 0 rfl) ?_
        refine va_get (D := G.1) (ci := 9) (v := .ref h_s) (C := RX9) (T := TX9) (N := 14) hx hb hts in_X9 hown hK.1 hP 0 rfl rfl 0 (by decide) (hts _ q817) (fun _ h9 => h9) rfl dX9_of_130 ?_
        refine lv_bipush (v := (22 : Int32)) hx hb dX9_of_133 (by decide) ?_
        refine lv_iconst (v := (3 : Int32)) hx hb dX9_of_135 (by decide) ?_
        refine lv_iload_n hx hb dX9_of_136 rfl (lv_at hl 1 rfl) ?_
        refine lv_imul hx hb dX9_of_137 ?_
        refine lv_iadd hx hb dX9_of_138 ?_
        refine lv_iload_n hx hb dX9_of_139 rfl (lv_at hl 2 rfl) ?_
        refine lv_iadd hx hb dX9_of_140 ?_
        refine lv_iconst (v := (3 : Int32)) hx hb dX9_of_141 (by decide) ?_
        refine lv_isub hx hb dX9_of_142 ?_
        obtain ⟨i_16, hw⟩ := hw
        refine z_iald hx hb hK.1 hP 1 0 rfl rfl i_16 dX9_of_143 (k := (((((22 : Int32) + ((3 : Int32) * p1)) + p2) - (3 : Int32))).toNatClampNeg) rfl ?_
        have hP9 := hP
        have hD9 := hD
        exact W.iret (v := (sv (((((22 : Int32) + ((3 : Int32) * p1)) + p2) - (3 : Int32))).toNatClampNeg)) hx hb hr (fun t ht hW => ⟨⟨(sv (((((22 : Int32) + ((3 : Int32) * p1)) + p2) - (3 : Int32))).toNatClampNeg), (), rfl, hw, by rw [ht]; exact hP9, hD9⟩, hS.F ht⟩) hS.2.2 dX9_of_144
      by_cases c_17 : p2 = (6 : Int32)
      · replace hw := hw.2.2.2.2.2.2.1 c_17
        refine z_tabIn (k := (6 : Int32)) (off := 76) (tgt := 97) hx hb dX9_of_21 c_17 (by decide) rfl (by decide) ?_
        refine lv_aload_n hx hb dX9_of_97 rfl (lv_at hl 0 rfl) ?_
        refine lv_iload_n hx hb dX9_of_98 rfl (lv_at hl 1 rfl) ?_
        have hPc := hP.sub (ws' := [oc h 9 [.ref h_s, .ref h_images, .int kept, .ref h_tape, .int typed, .ref h_draft, .int atv, .ref h_items, .ref h_moved, .ref h_sizes, .ref h_lanes, .ref h_less, .ref h_aside, .ref h_order], ai G h_s 161 sv]) [0, 1] rfl
        have hDc := hD.sub (ws' := [oc h 9 [.ref h_s, .ref h_images, .int kept, .ref h_tape, .int typed, .ref h_draft, .int atv, .ref h_items, .ref h_moved, .ref h_sizes, .ref h_lanes, .ref h_less, .ref h_aside, .ref h_order], ai G h_s 161 sv]) [0, 1] (by decide) rfl
        have hFc := va_free (wc := [oc h 9 [.ref h_s, .ref h_images, .int kept, .ref h_tape, .int typed, .ref h_draft, .int atv, .ref h_items, .ref h_moved, .ref h_sizes, .ref h_lanes, .ref h_less, .ref h_aside, .ref h_order], ai G h_s 161 sv]) hD hS hA [0, 1] rfl
        refine va_calli (va_runV (As := [.int p1]) (rest := []) ⟨hx, hb, hml, hown, hts⟩ (mt_X9_allStoodBy l G h h_s h_images h_tape h_draft h_items h_moved h_sizes h_lanes h_less h_aside h_order H.size kept typed atv sv p1 _ hw) (cwV 1 hts (lw_V q887 q889 qs29 q65 q890) rfl rfl rfl (by decide +kernel) ⟨Nat.le_of_ble_eq_true rfl, Nat.le_of_ble_eq_true rfl⟩) ⟨fun a U g mk q => by obtain ⟨q0, q1, qP, qK, qD⟩ := q; exact ⟨q0, q1, qP, qK.call, qD⟩, va_recv hK.1 hP (ci := 9) (q0 := 0) rfl rfl, fun U hU hW => ⟨rfl, by rw [hU], by rw [hU]; exact hPc, hK.warm hW, hDc.weaken (fun _ _ _ _ => trivial)⟩⟩ rfl rfl hl.1 rfl (lv_room (Nat.le_of_ble_eq_true rfl)) dX9_of_99 ⟨Nat.le_of_ble_eq_true rfl, Nat.le_of_ble_eq_true rfl⟩) hS (fun q _ h => hFc q h) hFc (fun r_18 _ t H1 locs ht hvm hw hB hz1 hk1 hS => ?_)
        obtain ⟨hP1, hD1⟩ := hB
        rw [ht] at hP1
        obtain ⟨hP, hD⟩ := va_join (wr := []) (w1 := [oc h 9 [.ref h_s, .ref h_images, .int kept, .ref h_tape, .int typed, .ref h_draft, .int atv, .ref h_items, .ref h_moved, .ref h_sizes, .ref h_lanes, .ref h_less, .ref h_aside, .ref h_order], ai G h_s 161 sv]) hP hD [0, 1] [] rfl rfl (by decide) (by decide) hk1 hFc hP1 hD1
        clear hPc hDc hFc hP1 hD1 hz1 hk1 hvm
        generalize H1 = H at hP hS ⊢
        have hP : va_P G.1 gCl [oc h 9 [.ref h_s, .ref h_images, .int kept, .ref h_tape, .int typed, .ref h_draft, .int atv, .ref h_items, .ref h_moved, .ref h_sizes, .ref h_lanes, .ref h_less, .ref h_aside, .ref h_order], ai G h_s 161 sv] H := hP
        have hD : va_D A [oc h 9 [.ref h_s, .ref h_images, .int kept, .ref h_tape, .int typed, .ref h_draft, .int atv, .ref h_items, .ref h_moved, .ref h_sizes, .ref h_lanes, .ref h_less, .ref h_aside, .ref h_order], ai G h_s 161 sv] := hD
        have hP9 := hP
        have hD9 := hD
        exact W.iret (v := r_18) hx hb hr (fun t ht hW => ⟨⟨r_18, (), rfl, hw, by rw [ht]; exact hP9, hD9⟩, hS.F ht⟩) hS.2.2 dX9_of_102
      by_cases c_19 : p2 = (7 : Int32)
      · replace hw := hw.2.2.2.2.2.2.2.1 c_19
        refine z_tabIn (k := (7 : Int32)) (off := 82) (tgt := 103) hx hb dX9_of_21 c_19 (by decide) rfl (by decide) ?_
        refine lv_aload_n hx hb dX9_of_103 rfl (lv_at hl 0 rfl) ?_
        refine lv_iload_n hx hb dX9_of_104 rfl (lv_at hl 1 rfl) ?_
        have hPc := hP.sub (ws' := [oc h 9 [.ref h_s, .ref h_images, .int kept, .ref h_tape, .int typed, .ref h_draft, .int atv, .ref h_items, .ref h_moved, .ref h_sizes, .ref h_lanes, .ref h_less, .ref h_aside, .ref h_order], ai G h_s 161 sv]) [0, 1] rfl
        have hDc := hD.sub (ws' := [oc h 9 [.ref h_s, .ref h_images, .int kept, .ref h_tape, .int typed, .ref h_draft, .int atv, .ref h_items, .ref h_moved, .ref h_sizes, .ref h_lanes, .ref h_less, .ref h_aside, .ref h_order], ai G h_s 161 sv]) [0, 1] (by decide) rfl
        have hFc := va_free (wc := [oc h 9 [.ref h_s, .ref h_images, .int kept, .ref h_tape, .int typed, .ref h_draft, .int atv, .ref h_items, .ref h_moved, .ref h_sizes, .ref h_lanes, .ref h_less, .ref h_aside, .ref h_order], ai G h_s 161 sv]) hD hS hA [0, 1] rfl
        refine va_calli (va_runV (As := [.int p1]) (rest := []) ⟨hx, hb, hml, hown, hts⟩ (mt_X9_allSitBy l G h h_s h_images h_tape h_draft h_items h_moved h_sizes h_lanes h_less h_aside h_order H.size kept typed atv sv p1 _ hw) (cwV 1 hts (lw_V q895 q897 qs31 q65 q898) rfl rfl rfl (by decide +kernel) ⟨Nat.le_of_ble_eq_true rfl, Nat.le_of_ble_eq_true rfl⟩) ⟨fun a U g mk q => by obtain ⟨q0, q1, qP, qK, qD⟩ := q; exact ⟨q0, q1, qP, qK.call, qD⟩, va_recv hK.1 hP (ci := 9) (q0 := 0) rfl rfl, fun U hU hW => ⟨rfl, by rw [hU], by rw [hU]; exact hPc, hK.warm hW, hDc.weaken (fun _ _ _ _ => trivial)⟩⟩ rfl rfl hl.1 rfl (lv_room (Nat.le_of_ble_eq_true rfl)) dX9_of_105 ⟨Nat.le_of_ble_eq_true rfl, Nat.le_of_ble_eq_true rfl⟩) hS (fun q _ h => hFc q h) hFc (fun r_20 _ t H1 locs ht hvm hw hB hz1 hk1 hS => ?_)
        obtain ⟨hP1, hD1⟩ := hB
        rw [ht] at hP1
        obtain ⟨hP, hD⟩ := va_join (wr := []) (w1 := [oc h 9 [.ref h_s, .ref h_images, .int kept, .ref h_tape, .int typed, .ref h_draft, .int atv, .ref h_items, .ref h_moved, .ref h_sizes, .ref h_lanes, .ref h_less, .ref h_aside, .ref h_order], ai G h_s 161 sv]) hP hD [0, 1] [] rfl rfl (by decide) (by decide) hk1 hFc hP1 hD1
        clear hPc hDc hFc hP1 hD1 hz1 hk1 hvm
        generalize H1 = H at hP hS ⊢
        have hP : va_P G.1 gCl [oc h 9 [.ref h_s, .ref h_images, .int kept, .ref h_tape, .int typed, .ref h_draft, .int atv, .ref h_items, .ref h_moved, .ref h_sizes, .ref h_lanes, .ref h_less, .ref h_aside, .ref h_order], ai G h_s 161 sv] H := hP
        have hD : va_D A [oc h 9 [.ref h_s, .ref h_images, .int kept, .ref h_tape, .int typed, .ref h_draft, .int atv, .ref h_items, .ref h_moved, .ref h_sizes, .ref h_lanes, .ref h_less, .ref h_aside, .ref h_order], ai G h_s 161 sv] := hD
        have hP9 := hP
        have hD9 := hD
        exact W.iret (v := r_20) hx hb hr (fun t ht hW => ⟨⟨r_20, (), rfl, hw, by rw [ht]; exact hP9, hD9⟩, hS.F ht⟩) hS.2.2 dX9_of_108
      by_cases c_21 : p2 = (8 : Int32)
      · replace hw := hw.2.2.2.2.2.2.2.2.1 c_21
        refine z_tabIn (k := (8 : Int32)) (off := 88) (tgt := 109) hx hb dX9_of_21 c_21 (by decide) rfl (by decide) ?_
        refine lv_aload_n hx hb dX9_of_109 rfl (lv_at hl 0 rfl) ?_
        refine lv_iload_n hx hb dX9_of_110 rfl (lv_at hl 1 rfl) ?_
        have hPc := hP.sub (ws' := [oc h 9 [.ref h_s, .ref h_images, .int kept, .ref h_tape, .int typed, .ref h_draft, .int atv, .ref h_items, .ref h_moved, .ref h_sizes, .ref h_lanes, .ref h_less, .ref h_aside, .ref h_order], ai G h_s 161 sv]) [0, 1] rfl
        have hDc := hD.sub (ws' := [oc h 9 [.ref h_s, .ref h_images, .int kept, .ref h_tape, .int typed, .ref h_draft, .int atv, .ref h_items, .ref h_moved, .ref h_sizes, .ref h_lanes, .ref h_less, .ref h_aside, .ref h_order], ai G h_s 161 sv]) [0, 1] (by decide) rfl
        have hFc := va_free (wc := [oc h 9 [.ref h_s, .ref h_images, .int kept, .ref h_tape, .int typed, .ref h_draft, .int atv, .ref h_items, .ref h_moved, .ref h_sizes, .ref h_lanes, .ref h_less, .ref h_aside, .ref h_order], ai G h_s 161 sv]) hD hS hA [0, 1] rfl
        refine va_calli (va_runV (As := [.int p1]) (rest := []) ⟨hx, hb, hml, hown, hts⟩ (mt_X9_seatOf l G h h_s h_images h_tape h_draft h_items h_moved h_sizes h_lanes h_less h_aside h_order H.size kept typed atv sv p1 _ hw) (cwV 1 hts (lw_V q883 q885 qs28 q65 q886) rfl rfl rfl (by decide +kernel) ⟨Nat.le_of_ble_eq_true rfl, Nat.le_of_ble_eq_true rfl⟩) ⟨fun a U g mk q => by obtain ⟨q0, q1, qP, qK, qD⟩ := q; exact ⟨q0, q1, qP, qK.call, qD⟩, va_recv hK.1 hP (ci := 9) (q0 := 0) rfl rfl, fun U hU hW => ⟨rfl, by rw [hU], by rw [hU]; exact hPc, hK.warm hW, hDc.weaken (fun _ _ _ _ => trivial)⟩⟩ rfl rfl hl.1 rfl (lv_room (Nat.le_of_ble_eq_true rfl)) dX9_of_111 ⟨Nat.le_of_ble_eq_true rfl, Nat.le_of_ble_eq_true rfl⟩) hS (fun q _ h => hFc q h) hFc (fun r_22 _ t H1 locs ht hvm hw hB hz1 hk1 hS => ?_)
        obtain ⟨hP1, hD1⟩ := hB
        rw [ht] at hP1
        obtain ⟨hP, hD⟩ := va_join (wr := []) (w1 := [oc h 9 [.ref h_s, .ref h_images, .int kept, .ref h_tape, .int typed, .ref h_draft, .int atv, .ref h_items, .ref h_moved, .ref h_sizes, .ref h_lanes, .ref h_less, .ref h_aside, .ref h_order], ai G h_s 161 sv]) hP hD [0, 1] [] rfl rfl (by decide) (by decide) hk1 hFc hP1 hD1
        clear hPc hDc hFc hP1 hD1 hz1 hk1 hvm
        generalize H1 = H at hP hS ⊢
        have hP : va_P G.1 gCl [oc h 9 [.ref h_s, .ref h_images, .int kept, .ref h_tape, .int typed, .ref h_draft, .int atv, .ref h_items, .ref h_moved, .ref h_sizes, .ref h_lanes, .ref h_less, .ref h_aside, .ref h_order], ai G h_s 161 sv] H := hP
        have hD : va_D A [oc h 9 [.ref h_s, .ref h_images, .int kept, .ref h_tape, .int typed, .ref h_draft, .int atv, .ref h_items, .ref h_moved, .ref h_sizes, .ref h_lanes, .ref h_less, .ref h_aside, .ref h_order], ai G h_s 161 sv] := hD
        refine lv_bipush (v := (-4 : Int32)) hx hb dX9_of_114 (by decide) ?_
        refine lv_icmp_ne (tgt := 123) hx hb dX9_of_116 (by decide) (fun c_23 => ?_) (fun c_23 => ?_)
        · replace hw := hw.1 c_23
          refine lv_aload_n hx hb dX9_of_123 rfl (lv_at hl 0 rfl) ?_
          refine lv_iload_n hx hb dX9_of_124 rfl (lv_at hl 1 rfl) ?_
          have hPc := hP.sub (ws' := [oc h 9 [.ref h_s, .ref h_images, .int kept, .ref h_tape, .int typed, .ref h_draft, .int atv, .ref h_items, .ref h_moved, .ref h_sizes, .ref h_lanes, .ref h_less, .ref h_aside, .ref h_order], ai G h_s 161 sv]) [0, 1] rfl
          have hDc := hD.sub (ws' := [oc h 9 [.ref h_s, .ref h_images, .int kept, .ref h_tape, .int typed, .ref h_draft, .int atv, .ref h_items, .ref h_moved, .ref h_sizes, .ref h_lanes, .ref h_less, .ref h_aside, .ref h_order], ai G h_s 161 sv]) [0, 1] (by decide) rfl
          have hFc := va_free (wc := [oc h 9 [.ref h_s, .ref h_images, .int kept, .ref h_tape, .int typed, .ref h_draft, .int atv, .ref h_items, .ref h_moved, .ref h_sizes, .ref h_lanes, .ref h_less, .ref h_aside, .ref h_order], ai G h_s 161 sv]) hD hS hA [0, 1] rfl
          refine va_calli (va_runV (As := [.int p1]) (rest := []) ⟨hx, hb, hml, hown, hts⟩ (mt_X9_fails l G h h_s h_images h_tape h_draft h_items h_moved h_sizes h_lanes h_less h_aside h_order H.size kept typed atv sv p1 _ hw) (cwV 1 hts (lw_V q903 q905 qs33 q65 q906) rfl rfl rfl (by decide +kernel) ⟨Nat.le_of_ble_eq_true rfl, Nat.le_of_ble_eq_true rfl⟩) ⟨fun a U g mk q => by obtain ⟨q0, q1, qP, qK, qD⟩ := q; exact ⟨q0, q1, qP, qK.call, qD⟩, va_recv hK.1 hP (ci := 9) (q0 := 0) rfl rfl, fun U hU hW => ⟨rfl, by rw [hU], by rw [hU]; exact hPc, hK.warm hW, hDc.weaken (fun _ _ _ _ => trivial)⟩⟩ rfl rfl hl.1 rfl (lv_room (Nat.le_of_ble_eq_true rfl)) dX9_of_125 ⟨Nat.le_of_ble_eq_true rfl, Nat.le_of_ble_eq_true rfl⟩) hS (fun q _ h => hFc q h) hFc (fun r_24 _ t H1 locs ht hvm hw hB hz1 hk1 hS => ?_)
          obtain ⟨hP1, hD1⟩ := hB
          rw [ht] at hP1
          obtain ⟨hP, hD⟩ := va_join (wr := []) (w1 := [oc h 9 [.ref h_s, .ref h_images, .int kept, .ref h_tape, .int typed, .ref h_draft, .int atv, .ref h_items, .ref h_moved, .ref h_sizes, .ref h_lanes, .ref h_less, .ref h_aside, .ref h_order], ai G h_s 161 sv]) hP hD [0, 1] [] rfl rfl (by decide) (by decide) hk1 hFc hP1 hD1
          clear hPc hDc hFc hP1 hD1 hz1 hk1 hvm
          generalize H1 = H at hP hS ⊢
          have hP : va_P G.1 gCl [oc h 9 [.ref h_s, .ref h_images, .int kept, .ref h_tape, .int typed, .ref h_draft, .int atv, .ref h_items, .ref h_moved, .ref h_sizes, .ref h_lanes, .ref h_less, .ref h_aside, .ref h_order], ai G h_s 161 sv] H := hP
          have hD : va_D A [oc h 9 [.ref h_s, .ref h_images, .int kept, .ref h_tape, .int typed, .ref h_draft, .int atv, .ref h_items, .ref h_moved, .ref h_sizes, .ref h_lanes, .ref h_less, .ref h_aside, .ref h_order], ai G h_s 161 sv] := hD
          have hP9 := hP
          have hD9 := hD
          exact W.iret (v := r_24) hx hb hr (fun t ht hW => ⟨⟨r_24, (), rfl, hw, by rw [ht]; exact hP9, hD9⟩, hS.F ht⟩) hS.2.2 dX9_of_128
        · replace hw := hw.2 c_23
          refine lv_iconst (v := (0 : Int32)) hx hb dX9_of_119 (by decide) ?_
          refine lv_goto (tgt := 128) hx hb dX9_of_120 (by decide) ?_
          have hP9 := hP
          have hD9 := hD
          exact W.iret (v := (0 : Int32)) hx hb hr (fun t ht hW => ⟨⟨(0 : Int32), (), rfl, hw, by rw [ht]; exact hP9, hD9⟩, hS.F ht⟩) hS.2.2 dX9_of_128
      replace hw := hw.2.2.2.2.2.2.2.2.2 ⟨c_5, c_7, c_9, c_11, c_13, c_15, c_17, c_19, c_21⟩
      refine lv_tableOut (tgt := 129) hx hb dX9_of_21 (z_tabOut (0) 9 [(0 : Int32), (1 : Int32), (2 : Int32), (3 : Int32), (4 : Int32), (5 : Int32), (6 : Int32), (7 : Int32), (8 : Int32)] (by decide +kernel) (List.forall_mem_cons.mpr ⟨c_5, (List.forall_mem_cons.mpr ⟨c_7, (List.forall_mem_cons.mpr ⟨c_9, (List.forall_mem_cons.mpr ⟨c_11, (List.forall_mem_cons.mpr ⟨c_13, (List.forall_mem_cons.mpr ⟨c_15, (List.forall_mem_cons.mpr ⟨c_17, (List.forall_mem_cons.mpr ⟨c_19, (List.forall_mem_cons.mpr ⟨c_21, fun _ h9 => absurd h9 List.not_mem_nil⟩)⟩)⟩)⟩)⟩)⟩)⟩)⟩)⟩)) (by decide) ?_
      refine lv_aload_n hx hb dX9_of_129 rfl (lv_at hl 0 rfl) ?_
      refine va_get (D := G.1) (ci := 9) (v := .ref h_s) (C := RX9) (T := TX9) (N := 14) hx hb hts in_X9 hown hK.1 hP 0 rfl rfl 0 (by decide) (hts _ q817) (fun _ h9 => h9) rfl dX9_of_130 ?_
      refine lv_bipush (v := (22 : Int32)) hx hb dX9_of_133 (by decide) ?_
      refine lv_iconst (v := (3 : Int32)) hx hb dX9_of_135 (by decide) ?_
      refine lv_iload_n hx hb dX9_of_136 rfl (lv_at hl 1 rfl) ?_
      refine lv_imul hx hb dX9_of_137 ?_
      refine lv_iadd hx hb dX9_of_138 ?_
      refine lv_iload_n hx hb dX9_of_139 rfl (lv_at hl 2 rfl) ?_
      refine lv_iadd hx hb dX9_of_140 ?_
      refine lv_iconst (v := (3 : Int32)) hx hb dX9_of_141 (by decide) ?_
      refine lv_isub hx hb dX9_of_142 ?_
      obtain ⟨i_25, hw⟩ := hw
      refine z_iald hx hb hK.1 hP 1 0 rfl rfl i_25 dX9_of_143 (k := (((((22 : Int32) + ((3 : Int32) * p1)) + p2) - (3 : Int32))).toNatClampNeg) rfl ?_
      have hP9 := hP
      have hD9 := hD
      exact W.iret (v := (sv (((((22 : Int32) + ((3 : Int32) * p1)) + p2) - (3 : Int32))).toNatClampNeg)) hx hb hr (fun t ht hW => ⟨⟨(sv (((((22 : Int32) + ((3 : Int32) * p1)) + p2) - (3 : Int32))).toNatClampNeg), (), rfl, hw, by rw [ht]; exact hP9, hD9⟩, hS.F ht⟩) hS.2.2 dX9_of_144
    · replace hw := hw.2 c_4
      refine lv_iconst (v := (-1 : Int32)) hx hb dX9_of_18 (by decide) ?_
      have hP9 := hP
      have hD9 := hD
      exact W.iret (v := (-1 : Int32)) hx hb hr (fun t ht hW => ⟨⟨(-1 : Int32), (), rfl, hw, by rw [ht]; exact hP9, hD9⟩, hS.F ht⟩) hS.2.2 dX9_of_19
/-! BattleBenchModel.seat(I)I -/
def wp_X9_seat (sv : Nat → Int32) (p1 : Int32) (Q : Int32 → Prop) : Prop :=
  (((0 ≤ p1) → wp_X9_onSeat sv p1 (fun r_2 => Q r_2)) ∧ (¬ (0 ≤ p1) → Q (-1 : Int32)))
set_option maxHeartbeats 4000000 in
theorem mt_X9_seat (l : Launch) (G : GT) (h h_s h_images h_tape h_draft h_items h_moved h_sizes h_lanes h_less h_aside h_order : Nat) (sz : Nat) (kept : Int32) (typed : Int32) (atv : Int32) (sv : Nat → Int32) (p1 : Int32) (Q : Int32 → Prop) (hw : wp_X9_seat sv p1 Q) : Met l yX9_seat (ws_ yX9_seat cX9_seat 2 (some .int)) ({ frames := 2, cells := 0, slots := 0, locals := 43 } : Room) (va_Pc [.ref h, .int p1] (fun U => U.heap.size = sz ∧ va_P G.1 gCl [oc h 9 [.ref h_s, .ref h_images, .int kept, .ref h_tape, .int typed, .ref h_draft, .int atv, .ref h_items, .ref h_moved, .ref h_sizes, .ref h_lanes, .ref h_less, .ref h_aside, .ref h_order], ai G h_s 161 sv] U.heap ∧ gK G U ∧ va_D (fun _ => True) [oc h 9 [.ref h_s, .ref h_images, .int kept, .ref h_tape, .int typed, .ref h_draft, .int atv, .ref h_items, .ref h_moved, .ref h_sizes, .ref h_lanes, .ref h_less, .ref h_aside, .ref h_order], ai G h_s 161 sv])) ((fun A => (va_Qi (fun (r : Int32) (u : Unit) => Q r ) (fun u t => va_P G.1 gCl [oc h 9 [.ref h_s, .ref h_images, .int kept, .ref h_tape, .int typed, .ref h_draft, .int atv, .ref h_items, .ref h_moved, .ref h_sizes, .ref h_lanes, .ref h_less, .ref h_aside, .ref h_order], ai G h_s 161 sv] t.heap ∧ va_D A [oc h 9 [.ref h_s, .ref h_images, .int kept, .ref h_tape, .int typed, .ref h_draft, .int atv, .ref h_items, .ref h_moved, .ref h_sizes, .ref h_lanes, .ref h_less, .ref h_aside, .ref h_order], ai G h_s 161 sv]) A)) (va_A [oc h 9 [.ref h_s, .ref h_images, .int kept, .ref h_tape, .int typed, .ref h_draft, .int atv, .ref h_items, .ref h_moved, .ref h_sizes, .ref h_lanes, .ref h_less, .ref h_aside, .ref h_order], ai G h_s 161 sv] sz)) 0 0 (va_A [oc h 9 [.ref h_s, .ref h_images, .int kept, .ref h_tape, .int typed, .ref h_draft, .int atv, .ref h_items, .ref h_moved, .ref h_sizes, .ref h_lanes, .ref h_less, .ref h_aside, .ref h_order], ai G h_s 161 sv] sz) := by
  refine Met.ofW (cc := cX9_seat) (maxL := 2) (ret := (some .int)) (by decide) rfl ?_
  intro p e s m args below meth c s₁ B hml hv
  obtain ⟨rfl, hsz, hP, hK, hD0⟩ := hv
  have hx := B.exec
  have hb := B.bytes
  have hr := B.returns
  have hts := atoms_spec (ws := (ws_ yX9_seat cX9_seat 2 (some .int))) B.pre
  have hts : ∀ w ∈ lw_all, w.before _ s = true := fun w h => hts w (List.mem_cons_of_mem _ h)
  have hown : s.vm.findClass RX9 = some m.cls := findClass_of_methodNamed B.named
  have hlocks := B.notSynchronized
  subst hsz
  have hD := hD0.self (sz := s.heap.size)
  generalize hAe : va_A [oc h 9 [.ref h_s, .ref h_images, .int kept, .ref h_tape, .int typed, .ref h_draft, .int atv, .ref h_items, .ref h_moved, .ref h_sizes, .ref h_lanes, .ref h_less, .ref h_aside, .ref h_order], ai G h_s 161 sv] s.heap.size = A at hD ⊢
  have hA : ∀ q : Nat, s.heap.size ≤ q → A q := fun q h => by rw [← hAe]; exact Or.inr h
  have hS : va_S A s.heap s.heap [] := va_S.rf
  have C : Cx p s m meth c cX9_seat 2 (some .int) RX9 ([.ref h, .int p1] : List Value).toArray G A := ⟨hx, hb, hr, hlocks, hml, hown, hts, hK, hA⟩
  have hl := lv_entry ([.ref h, .int p1]) (n := 2) (Nat.le_of_ble_eq_true rfl)
  rw [lg_entry_eq]
  generalize (lg_sl ([.ref h, .int p1]) ++ List.replicate (2 - (lg_sl ([.ref h, .int p1])).length) Slot.unset).toArray = ls at hl ⊢
  have hl : lv_has ls 2 [(0, .ref h), (1, .int p1)] := hl
  unfold wp_X9_seat at hw
  refine lv_iload_n hx hb dX9_seat_0 rfl (lv_at hl 1 rfl) ?_
  refine lv_if_ge (tgt := 8) hx hb dX9_seat_1 (by decide) (fun c_1 => ?_) (fun c_1 => ?_)
  · replace hw := hw.1 c_1
    refine lv_aload_n hx hb dX9_seat_8 rfl (lv_at hl 0 rfl) ?_
    refine lv_iload_n hx hb dX9_seat_9 rfl (lv_at hl 1 rfl) ?_
    have hPc := hP.sub (ws' := [oc h 9 [.ref h_s, .ref h_images, .int kept, .ref h_tape, .int typed, .ref h_draft, .int atv, .ref h_items, .ref h_moved, .ref h_sizes, .ref h_lanes, .ref h_less, .ref h_aside, .ref h_order], ai G h_s 161 sv]) [0, 1] rfl
    have hDc := hD.sub (ws' := [oc h 9 [.ref h_s, .ref h_images, .int kept, .ref h_tape, .int typed, .ref h_draft, .int atv, .ref h_items, .ref h_moved, .ref h_sizes, .ref h_lanes, .ref h_less, .ref h_aside, .ref h_order], ai G h_s 161 sv]) [0, 1] (by decide) rfl
    have hFc := va_free (wc := [oc h 9 [.ref h_s, .ref h_images, .int kept, .ref h_tape, .int typed, .ref h_draft, .int atv, .ref h_items, .ref h_moved, .ref h_sizes, .ref h_lanes, .ref h_less, .ref h_aside, .ref h_order], ai G h_s 161 sv]) hD hS hA [0, 1] rfl
    refine va_calli (va_runV (As := [.int p1]) (rest := []) ⟨hx, hb, hml, hown, hts⟩ (mt_X9_onSeat l G h h_s h_images h_tape h_draft h_items h_moved h_sizes h_lanes h_less h_aside h_order s.heap.size kept typed atv sv p1 _ hw) (cwV 1 hts (lw_V q899 q901 qs32 q65 q902) rfl rfl rfl (by decide +kernel) ⟨Nat.le_of_ble_eq_true rfl, Nat.le_of_ble_eq_true rfl⟩) ⟨fun a U g mk q => by obtain ⟨q0, q1, qP, qK, qD⟩ := q; exact ⟨q0, q1, qP, qK.call, qD⟩, va_recv hK.1 hP (ci := 9) (q0 := 0) rfl rfl, fun U hU hW => ⟨rfl, by rw [hU], by rw [hU]; exact hPc, hK.warm hW, hDc.weaken (fun _ _ _ _ => trivial)⟩⟩ rfl rfl hl.1 rfl (lv_room (Nat.le_of_ble_eq_true rfl)) dX9_seat_10 ⟨Nat.le_of_ble_eq_true rfl, Nat.le_of_ble_eq_true rfl⟩) hS (fun q _ h => hFc q h) hFc (fun r_2 _ t H1 locs ht hvm hw hB hz1 hk1 hS => ?_)
    obtain ⟨hP1, hD1⟩ := hB
    rw [ht] at hP1
    obtain ⟨hP, hD⟩ := va_join (wr := []) (w1 := [oc h 9 [.ref h_s, .ref h_images, .int kept, .ref h_tape, .int typed, .ref h_draft, .int atv, .ref h_items, .ref h_moved, .ref h_sizes, .ref h_lanes, .ref h_less, .ref h_aside, .ref h_order], ai G h_s 161 sv]) hP hD [0, 1] [] rfl rfl (by decide) (by decide) hk1 hFc hP1 hD1
    clear hPc hDc hFc hP1 hD1 hz1 hk1 hvm
    generalize H1 = H at hP hS ⊢
    have hP : va_P G.1 gCl [oc h 9 [.ref h_s, .ref h_images, .int kept, .ref h_tape, .int typed, .ref h_draft, .int atv, .ref h_items, .ref h_moved, .ref h_sizes, .ref h_lanes, .ref h_less, .ref h_aside, .ref h_order], ai G h_s 161 sv] H := hP
    have hD : va_D A [oc h 9 [.ref h_s, .ref h_images, .int kept, .ref h_tape, .int typed, .ref h_draft, .int atv, .ref h_items, .ref h_moved, .ref h_sizes, .ref h_lanes, .ref h_less, .ref h_aside, .ref h_order], ai G h_s 161 sv] := hD
    have hP9 := hP
    have hD9 := hD
    exact W.iret (v := r_2) hx hb hr (fun t ht hW => ⟨⟨r_2, (), rfl, hw, by rw [ht]; exact hP9, hD9⟩, hS.F ht⟩) hS.2.2 dX9_seat_13
  · replace hw := hw.2 c_1
    refine lv_iconst (v := (-1 : Int32)) hx hb dX9_seat_4 (by decide) ?_
    refine lv_goto (tgt := 13) hx hb dX9_seat_5 (by decide) ?_
    have hP9 := hP
    have hD9 := hD
    exact W.iret (v := (-1 : Int32)) hx hb hr (fun t ht hW => ⟨⟨(-1 : Int32), (), rfl, hw, by rw [ht]; exact hP9, hD9⟩, hS.F ht⟩) hS.2.2 dX9_seat_13
/-! BattleBenchModel.type(I)I -/
def wp_X9_type (typed : Int32) (tape : Nat → Int32) (p1 : Int32) (Q : Int32 → (Int32 × (Nat → Int32)) → Prop) : Prop :=
  wp_X9_in  p1 (32 : Int32) (126 : Int32) (fun r_1 => ((¬ (r_1 = 0) → ((¬ (typed = (70 : Int32)) → (vp_in typed 70 ∧ ∀ f_5 : Nat → Int32, f_5 = upd tape typed.toNatClampNeg p1 → (∀ v_6 : Int32, v_6 = (typed + (1 : Int32)) → Q v_6 (v_6, f_5)))) ∧ ((typed = (70 : Int32)) → Q (-3 : Int32) (typed, tape)))) ∧ ((r_1 = 0) → Q (-1 : Int32) (typed, tape))))
set_option maxHeartbeats 4000000 in
theorem mt_X9_type (l : Launch) (G : GT) (h h_s h_images h_tape h_draft h_items h_moved h_sizes h_lanes h_less h_aside h_order : Nat) (sz : Nat) (kept : Int32) (typed : Int32) (atv : Int32) (tape : Nat → Int32) (p1 : Int32) (Q : Int32 → (Int32 × (Nat → Int32)) → Prop) (hw : wp_X9_type typed tape p1 Q) : Met l yX9_type (ws_ yX9_type cX9_type 2 (some .int)) ({ frames := 1, cells := 0, slots := 0, locals := 22 } : Room) (va_Pc [.ref h, .int p1] (fun U => U.heap.size = sz ∧ va_P G.1 gCl [oc h 9 [.ref h_s, .ref h_images, .int kept, .ref h_tape, .int typed, .ref h_draft, .int atv, .ref h_items, .ref h_moved, .ref h_sizes, .ref h_lanes, .ref h_less, .ref h_aside, .ref h_order], ai G h_tape 70 tape] U.heap ∧ gK G U ∧ va_D (fun _ => True) [oc h 9 [.ref h_s, .ref h_images, .int kept, .ref h_tape, .int typed, .ref h_draft, .int atv, .ref h_items, .ref h_moved, .ref h_sizes, .ref h_lanes, .ref h_less, .ref h_aside, .ref h_order], ai G h_tape 70 tape])) ((fun A => (va_Qi (fun (r : Int32) (u : Int32 × (Nat → Int32)) => Q r u) (fun u t => va_P G.1 gCl [oc h 9 [.ref h_s, .ref h_images, .int kept, .ref h_tape, .int u.1, .ref h_draft, .int atv, .ref h_items, .ref h_moved, .ref h_sizes, .ref h_lanes, .ref h_less, .ref h_aside, .ref h_order], ai G h_tape 70 u.2] t.heap ∧ va_D A [oc h 9 [.ref h_s, .ref h_images, .int kept, .ref h_tape, .int u.1, .ref h_draft, .int atv, .ref h_items, .ref h_moved, .ref h_sizes, .ref h_lanes, .ref h_less, .ref h_aside, .ref h_order], ai G h_tape 70 u.2]) A)) (va_A [oc h 9 [.ref h_s, .ref h_images, .int kept, .ref h_tape, .int typed, .ref h_draft, .int atv, .ref h_items, .ref h_moved, .ref h_sizes, .ref h_lanes, .ref h_less, .ref h_aside, .ref h_order], ai G h_tape 70 tape] sz)) 0 0 (va_A [oc h 9 [.ref h_s, .ref h_images, .int kept, .ref h_tape, .int typed, .ref h_draft, .int atv, .ref h_items, .ref h_moved, .ref h_sizes, .ref h_lanes, .ref h_less, .ref h_aside, .ref h_order], ai G h_tape 70 tape] sz) := by
  refine Met.ofW (cc := cX9_type) (maxL := 2) (ret := (some .int)) (by decide) rfl ?_
  intro p e s m args below meth c s₁ B hml hv
  obtain ⟨rfl, hsz, hP, hK, hD0⟩ := hv
  have hx := B.exec
  have hb := B.bytes
  have hr := B.returns
  have hts := atoms_spec (ws := (ws_ yX9_type cX9_type 2 (some .int))) B.pre
  have hts : ∀ w ∈ lw_all, w.before _ s = true := fun w h => hts w (List.mem_cons_of_mem _ h)
  have hown : s.vm.findClass RX9 = some m.cls := findClass_of_methodNamed B.named
  have hlocks := B.notSynchronized
  subst hsz
  have hD := hD0.self (sz := s.heap.size)
  generalize hAe : va_A [oc h 9 [.ref h_s, .ref h_images, .int kept, .ref h_tape, .int typed, .ref h_draft, .int atv, .ref h_items, .ref h_moved, .ref h_sizes, .ref h_lanes, .ref h_less, .ref h_aside, .ref h_order], ai G h_tape 70 tape] s.heap.size = A at hD ⊢
  have hA : ∀ q : Nat, s.heap.size ≤ q → A q := fun q h => by rw [← hAe]; exact Or.inr h
  have hS : va_S A s.heap s.heap [] := va_S.rf
  have C : Cx p s m meth c cX9_type 2 (some .int) RX9 ([.ref h, .int p1] : List Value).toArray G A := ⟨hx, hb, hr, hlocks, hml, hown, hts, hK, hA⟩
  have hl := lv_entry ([.ref h, .int p1]) (n := 2) (Nat.le_of_ble_eq_true rfl)
  rw [lg_entry_eq]
  generalize (lg_sl ([.ref h, .int p1]) ++ List.replicate (2 - (lg_sl ([.ref h, .int p1])).length) Slot.unset).toArray = ls at hl ⊢
  have hl : lv_has ls 2 [(0, .ref h), (1, .int p1)] := hl
  unfold wp_X9_type at hw
  refine lv_iload_n hx hb dX9_type_0 rfl (lv_at hl 1 rfl) ?_
  refine lv_bipush (v := (32 : Int32)) hx hb dX9_type_1 (by decide) ?_
  refine lv_bipush (v := (126 : Int32)) hx hb dX9_type_3 (by decide) ?_
  have hPc := hP.sub (ws' := []) [] rfl
  have hDc := hD.sub (ws' := []) [] (by decide) rfl
  have hFc := va_free (wc := []) hD hS hA [] rfl
  refine va_calli (va_runS (As := [.int p1, .int (32 : Int32), .int (126 : Int32)]) (rest := []) ⟨hx, hb, hml, hown, hts⟩ (mt_X9_in l G  s.heap.size  p1 (32 : Int32) (126 : Int32) _ hw) (va_cwS 3 hts (lw_S q864 q865 q65 q866) rfl rfl rfl (by decide +kernel) ⟨Nat.le_of_ble_eq_true rfl, Nat.le_of_ble_eq_true rfl⟩) ⟨fun a U g mk q => by obtain ⟨q0, q1, qP, qK, qD⟩ := q; exact ⟨q0, q1, qP, qK.call, qD⟩, fun U hU hW => ⟨rfl, by rw [hU], by rw [hU]; exact hPc, hK.warm hW, hDc.weaken (fun _ _ _ _ => trivial)⟩⟩ rfl rfl hl.1 rfl (lv_room (Nat.le_of_ble_eq_true rfl)) dX9_type_5 ⟨Nat.le_of_ble_eq_true rfl, Nat.le_of_ble_eq_true rfl⟩) hS (fun q _ h => hFc q h) hFc (fun r_1 _ t H1 locs ht hvm hw hB hz1 hk1 hS => ?_)
  obtain ⟨hP1, hD1⟩ := hB
  rw [ht] at hP1
  obtain ⟨hP, hD⟩ := va_join (wr := [oc h 9 [.ref h_s, .ref h_images, .int kept, .ref h_tape, .int typed, .ref h_draft, .int atv, .ref h_items, .ref h_moved, .ref h_sizes, .ref h_lanes, .ref h_less, .ref h_aside, .ref h_order], ai G h_tape 70 tape]) (w1 := []) hP hD [] [0, 1] rfl rfl (by decide) (by decide) hk1 hFc hP1 hD1
  clear hPc hDc hFc hP1 hD1 hz1 hk1 hvm
  generalize H1 = H at hP hS ⊢
  have hP : va_P G.1 gCl [oc h 9 [.ref h_s, .ref h_images, .int kept, .ref h_tape, .int typed, .ref h_draft, .int atv, .ref h_items, .ref h_moved, .ref h_sizes, .ref h_lanes, .ref h_less, .ref h_aside, .ref h_order], ai G h_tape 70 tape] H := hP
  have hD : va_D A [oc h 9 [.ref h_s, .ref h_images, .int kept, .ref h_tape, .int typed, .ref h_draft, .int atv, .ref h_items, .ref h_moved, .ref h_sizes, .ref h_lanes, .ref h_less, .ref h_aside, .ref h_order], ai G h_tape 70 tape] := hD
  refine lv_if_ne (tgt := 13) hx hb dX9_type_8 (by decide) (fun c_2 => ?_) (fun c_2 => ?_)
  · replace hw := hw.1 c_2
    refine lv_aload_n hx hb dX9_type_13 rfl (lv_at hl 0 rfl) ?_
    refine va_get (D := G.1) (ci := 9) (v := .int typed) (C := RX9) (T := TX9) (N := 14) hx hb hts in_X9 hown hK.1 hP 0 rfl rfl 4 (by decide) (hts _ q821) (fun _ h9 => h9) rfl dX9_type_14 ?_
    refine lv_bipush (v := (70 : Int32)) hx hb dX9_type_17 (by decide) ?_
    refine lv_icmp_ne (tgt := 25) hx hb dX9_type_19 (by decide) (fun c_3 => ?_) (fun c_3 => ?_)
    · replace hw := hw.1 c_3
      refine lv_aload_n hx hb dX9_type_25 rfl (lv_at hl 0 rfl) ?_
      refine va_get (D := G.1) (ci := 9) (v := .ref h_tape) (C := RX9) (T := TX9) (N := 14) hx hb hts in_X9 hown hK.1 hP 0 rfl rfl 3 (by decide) (hts _ q820) (fun _ h9 => h9) rfl dX9_type_26 ?_
      refine lv_aload_n hx hb dX9_type_29 rfl (lv_at hl 0 rfl) ?_
      refine va_get (D := G.1) (ci := 9) (v := .int typed) (C := RX9) (T := TX9) (N := 14) hx hb hts in_X9 hown hK.1 hP 0 rfl rfl 4 (by decide) (hts _ q821) (fun _ h9 => h9) rfl dX9_type_30 ?_
      refine lv_iload_n hx hb dX9_type_33 rfl (lv_at hl 1 rfl) ?_
      obtain ⟨i_4, hw⟩ := hw
      refine z_iast hx hb hK.1 hP hD hS 1 0 rfl rfl i_4 dX9_type_34 (k := typed.toNatClampNeg) rfl (fun f_5 ef_5 H locs hP hD hS => ?_)
      replace hw := hw f_5 ef_5
      have hP : va_P G.1 gCl [oc h 9 [.ref h_s, .ref h_images, .int kept, .ref h_tape, .int typed, .ref h_draft, .int atv, .ref h_items, .ref h_moved, .ref h_sizes, .ref h_lanes, .ref h_less, .ref h_aside, .ref h_order], ai G h_tape 70 f_5] H := hP
      have hD : va_D A [oc h 9 [.ref h_s, .ref h_images, .int kept, .ref h_tape, .int typed, .ref h_draft, .int atv, .ref h_items, .ref h_moved, .ref h_sizes, .ref h_lanes, .ref h_less, .ref h_aside, .ref h_order], ai G h_tape 70 f_5] := hD
      refine lv_aload_n hx hb dX9_type_35 rfl (lv_at hl 0 rfl) ?_
      refine lv_dup hx hb dX9_type_36 rfl ?_
      refine va_get (D := G.1) (ci := 9) (v := .int typed) (C := RX9) (T := TX9) (N := 14) hx hb hts in_X9 hown hK.1 hP 0 rfl rfl 4 (by decide) (hts _ q821) (fun _ h9 => h9) rfl dX9_type_37 ?_
      refine lv_iconst (v := (1 : Int32)) hx hb dX9_type_40 (by decide) ?_
      refine lv_iadd hx hb dX9_type_41 ?_
      refine lv_topi (fun v_6 ev_6 => ?_)
      replace hw := hw v_6 ev_6
      refine va_put (D := G.1) (ci := 9) (v := .int v_6) (ty := .int) (C := RX9) (T := TX9) (N := 14) hx hb hts in_X9 tyX9 tyX9_ok nmX9 hown hK.1 hP hD hS 0 rfl rfl 4 (by decide) (hts _ q821) (fun _ h9 => h9) rfl (by decide +kernel) rfl rfl (Nat.le_of_ble_eq_true rfl) dX9_type_42 (fun H locs hP hD hS => ?_)
      have hP : va_P G.1 gCl [oc h 9 [.ref h_s, .ref h_images, .int kept, .ref h_tape, .int v_6, .ref h_draft, .int atv, .ref h_items, .ref h_moved, .ref h_sizes, .ref h_lanes, .ref h_less, .ref h_aside, .ref h_order], ai G h_tape 70 f_5] H := hP
      have hD : va_D A [oc h 9 [.ref h_s, .ref h_images, .int kept, .ref h_tape, .int v_6, .ref h_draft, .int atv, .ref h_items, .ref h_moved, .ref h_sizes, .ref h_lanes, .ref h_less, .ref h_aside, .ref h_order], ai G h_tape 70 f_5] := hD
      refine lv_aload_n hx hb dX9_type_45 rfl (lv_at hl 0 rfl) ?_
      refine va_get (D := G.1) (ci := 9) (v := .int v_6) (C := RX9) (T := TX9) (N := 14) hx hb hts in_X9 hown hK.1 hP 0 rfl rfl 4 (by decide) (hts _ q821) (fun _ h9 => h9) rfl dX9_type_46 ?_
      have hP9 := hP
      have hD9 := hD
      exact W.iret (v := v_6) hx hb hr (fun t ht hW => ⟨⟨v_6, (v_6, f_5), rfl, hw, by rw [ht]; exact hP9, hD9⟩, hS.F ht⟩) hS.2.2 dX9_type_49
    · replace hw := hw.2 c_3
      refine lv_bipush (v := (-3 : Int32)) hx hb dX9_type_22 (by decide) ?_
      have hP9 := hP
      have hD9 := hD
      exact W.iret (v := (-3 : Int32)) hx hb hr (fun t ht hW => ⟨⟨(-3 : Int32), (typed, tape), rfl, hw, by rw [ht]; exact hP9, hD9⟩, hS.F ht⟩) hS.2.2 dX9_type_24
  · replace hw := hw.2 c_2
    refine lv_iconst (v := (-1 : Int32)) hx hb dX9_type_11 (by decide) ?_
    have hP9 := hP
    have hD9 := hD
    exact W.iret (v := (-1 : Int32)) hx hb hr (fun t ht hW => ⟨⟨(-1 : Int32), (typed, tape), rfl, hw, by rw [ht]; exact hP9, hD9⟩, hS.F ht⟩) hS.2.2 dX9_type_12
/-! BattleBenchModel.letterAt(I)I -/
def wp_X9_letterAt (typed : Int32) (tape : Nat → Int32) (p1 : Int32) (Q : Int32 → Prop) : Prop :=
  (((typed ≤ p1) → Q (-1 : Int32)) ∧ (¬ (typed ≤ p1) → (vp_in p1 70 ∧ Q (tape p1.toNatClampNeg))))
set_option maxHeartbeats 4000000 in
theorem mt_X9_letterAt (l : Launch) (G : GT) (h h_s h_images h_tape h_draft h_items h_moved h_sizes h_lanes h_less h_aside h_order : Nat) (sz : Nat) (kept : Int32) (typed : Int32) (atv : Int32) (tape : Nat → Int32) (p1 : Int32) (Q : Int32 → Prop) (hw : wp_X9_letterAt typed tape p1 Q) : Met l yX9_letterAt (ws_ yX9_letterAt cX9_letterAt 2 (some .int)) ({ frames := 0, cells := 0, slots := 0, locals := 0 } : Room) (va_Pc [.ref h, .int p1] (fun U => U.heap.size = sz ∧ va_P G.1 gCl [oc h 9 [.ref h_s, .ref h_images, .int kept, .ref h_tape, .int typed, .ref h_draft, .int atv, .ref h_items, .ref h_moved, .ref h_sizes, .ref h_lanes, .ref h_less, .ref h_aside, .ref h_order], ai G h_tape 70 tape] U.heap ∧ gK G U ∧ va_D (fun _ => True) [oc h 9 [.ref h_s, .ref h_images, .int kept, .ref h_tape, .int typed, .ref h_draft, .int atv, .ref h_items, .ref h_moved, .ref h_sizes, .ref h_lanes, .ref h_less, .ref h_aside, .ref h_order], ai G h_tape 70 tape])) ((fun A => (va_Qi (fun (r : Int32) (u : Unit) => Q r ) (fun u t => va_P G.1 gCl [oc h 9 [.ref h_s, .ref h_images, .int kept, .ref h_tape, .int typed, .ref h_draft, .int atv, .ref h_items, .ref h_moved, .ref h_sizes, .ref h_lanes, .ref h_less, .ref h_aside, .ref h_order], ai G h_tape 70 tape] t.heap ∧ va_D A [oc h 9 [.ref h_s, .ref h_images, .int kept, .ref h_tape, .int typed, .ref h_draft, .int atv, .ref h_items, .ref h_moved, .ref h_sizes, .ref h_lanes, .ref h_less, .ref h_aside, .ref h_order], ai G h_tape 70 tape]) A)) (va_A [oc h 9 [.ref h_s, .ref h_images, .int kept, .ref h_tape, .int typed, .ref h_draft, .int atv, .ref h_items, .ref h_moved, .ref h_sizes, .ref h_lanes, .ref h_less, .ref h_aside, .ref h_order], ai G h_tape 70 tape] sz)) 0 0 (va_A [oc h 9 [.ref h_s, .ref h_images, .int kept, .ref h_tape, .int typed, .ref h_draft, .int atv, .ref h_items, .ref h_moved, .ref h_sizes, .ref h_lanes, .ref h_less, .ref h_aside, .ref h_order], ai G h_tape 70 tape] sz) := by
  refine Met.ofW (cc := cX9_letterAt) (maxL := 2) (ret := (some .int)) (by decide) rfl ?_
  intro p e s m args below meth c s₁ B hml hv
  obtain ⟨rfl, hsz, hP, hK, hD0⟩ := hv
  have hx := B.exec
  have hb := B.bytes
  have hr := B.returns
  have hts := atoms_spec (ws := (ws_ yX9_letterAt cX9_letterAt 2 (some .int))) B.pre
  have hts : ∀ w ∈ lw_all, w.before _ s = true := fun w h => hts w (List.mem_cons_of_mem _ h)
  have hown : s.vm.findClass RX9 = some m.cls := findClass_of_methodNamed B.named
  have hlocks := B.notSynchronized
  subst hsz
  have hD := hD0.self (sz := s.heap.size)
  generalize hAe : va_A [oc h 9 [.ref h_s, .ref h_images, .int kept, .ref h_tape, .int typed, .ref h_draft, .int atv, .ref h_items, .ref h_moved, .ref h_sizes, .ref h_lanes, .ref h_less, .ref h_aside, .ref h_order], ai G h_tape 70 tape] s.heap.size = A at hD ⊢
  have hA : ∀ q : Nat, s.heap.size ≤ q → A q := fun q h => by rw [← hAe]; exact Or.inr h
  have hS : va_S A s.heap s.heap [] := va_S.rf
  have C : Cx p s m meth c cX9_letterAt 2 (some .int) RX9 ([.ref h, .int p1] : List Value).toArray G A := ⟨hx, hb, hr, hlocks, hml, hown, hts, hK, hA⟩
  have hl := lv_entry ([.ref h, .int p1]) (n := 2) (Nat.le_of_ble_eq_true rfl)
  rw [lg_entry_eq]
  generalize (lg_sl ([.ref h, .int p1]) ++ List.replicate (2 - (lg_sl ([.ref h, .int p1])).length) Slot.unset).toArray = ls at hl ⊢
  have hl : lv_has ls 2 [(0, .ref h), (1, .int p1)] := hl
  unfold wp_X9_letterAt at hw
  refine lv_iload_n hx hb dX9_letterAt_0 rfl (lv_at hl 1 rfl) ?_
  refine lv_aload_n hx hb dX9_letterAt_1 rfl (lv_at hl 0 rfl) ?_
  refine va_get (D := G.1) (ci := 9) (v := .int typed) (C := RX9) (T := TX9) (N := 14) hx hb hts in_X9 hown hK.1 hP 0 rfl rfl 4 (by decide) (hts _ q821) (fun _ h9 => h9) rfl dX9_letterAt_2 ?_
  refine lv_icmp_ge (tgt := 17) hx hb dX9_letterAt_5 (by decide) (fun c_1 => ?_) (fun c_1 => ?_)
  · replace hw := hw.1 c_1
    refine lv_iconst (v := (-1 : Int32)) hx hb dX9_letterAt_17 (by decide) ?_
    have hP9 := hP
    have hD9 := hD
    exact W.iret (v := (-1 : Int32)) hx hb hr (fun t ht hW => ⟨⟨(-1 : Int32), (), rfl, hw, by rw [ht]; exact hP9, hD9⟩, hS.F ht⟩) hS.2.2 dX9_letterAt_18
  · replace hw := hw.2 c_1
    refine lv_aload_n hx hb dX9_letterAt_8 rfl (lv_at hl 0 rfl) ?_
    refine va_get (D := G.1) (ci := 9) (v := .ref h_tape) (C := RX9) (T := TX9) (N := 14) hx hb hts in_X9 hown hK.1 hP 0 rfl rfl 3 (by decide) (hts _ q820) (fun _ h9 => h9) rfl dX9_letterAt_9 ?_
    refine lv_iload_n hx hb dX9_letterAt_12 rfl (lv_at hl 1 rfl) ?_
    obtain ⟨i_2, hw⟩ := hw
    refine z_iald hx hb hK.1 hP 1 0 rfl rfl i_2 dX9_letterAt_13 (k := p1.toNatClampNeg) rfl ?_
    refine lv_goto (tgt := 18) hx hb dX9_letterAt_14 (by decide) ?_
    have hP9 := hP
    have hD9 := hD
    exact W.iret (v := (tape p1.toNatClampNeg)) hx hb hr (fun t ht hW => ⟨⟨(tape p1.toNatClampNeg), (), rfl, hw, by rw [ht]; exact hP9, hD9⟩, hS.F ht⟩) hS.2.2 dX9_letterAt_18
/-! BattleBenchModel.skips()I -/
def wp_X9_skips_0 (typed : Int32) (tape : Nat → Int32) (Q : Int32 → (Int32) → Prop)  : Nat → Int32 → Prop
  | 0, _ => False
  | n + 1, atv =>
    wp_X9_letterAt typed tape atv (fun r_1 => ((¬ (r_1 = (32 : Int32)) → wp_X9_letterAt typed tape atv (fun r_3 => Q r_3 atv)) ∧ ((r_1 = (32 : Int32)) → (∀ v_4 : Int32, v_4 = (atv + (1 : Int32)) → wp_X9_skips_0 typed tape Q  n v_4))))
set_option maxHeartbeats 4000000 in
theorem wk_X9_skips_0 {p : Program} {l : Launch} {e : Env} {s : State} {m : MethodId} {below : List Frame} {meth : Method} {c : Code} {args : Array Value} {G : GT} {A : Nat → Prop} (h h_s h_images h_tape h_draft h_items h_moved h_sizes h_lanes h_less h_aside h_order : Nat) (kept : Int32) (typed : Int32) (tape : Nat → Int32) (Q : Int32 → (Int32) → Prop)  (C : Cx p s m meth c cX9_skips 1 (some .int) RX9 args G A)  :
    ∀ (n : Nat), ∀  (atv : Int32) (H : Heap) (locs : List Loc), va_P G.1 gCl [oc h 9 [.ref h_s, .ref h_images, .int kept, .ref h_tape, .int typed, .ref h_draft, .int atv, .ref h_items, .ref h_moved, .ref h_sizes, .ref h_lanes, .ref h_less, .ref h_aside, .ref h_order], ai G h_tape 70 tape] H → va_D A [oc h 9 [.ref h_s, .ref h_images, .int kept, .ref h_tape, .int typed, .ref h_draft, .int atv, .ref h_items, .ref h_moved, .ref h_sizes, .ref h_lanes, .ref h_less, .ref h_aside, .ref h_order], ai G h_tape 70 tape] → va_S A s.heap H locs → ∀ (ls : Array Slot), lv_has ls 1 [(0, .ref h)] → wp_X9_skips_0 typed tape Q  n atv → W p l e ({ frames := 1, cells := 0, slots := 0, locals := 21 } : Room) s m args below meth c H locs 0 0 (MQ below (va_Qi (fun (r : Int32) (u : Int32) => Q r u) (fun u t => va_P G.1 gCl [oc h 9 [.ref h_s, .ref h_images, .int kept, .ref h_tape, .int typed, .ref h_draft, .int u, .ref h_items, .ref h_moved, .ref h_sizes, .ref h_lanes, .ref h_less, .ref h_aside, .ref h_order], ai G h_tape 70 tape] t.heap ∧ va_D A [oc h 9 [.ref h_s, .ref h_images, .int kept, .ref h_tape, .int typed, .ref h_draft, .int u, .ref h_items, .ref h_moved, .ref h_sizes, .ref h_lanes, .ref h_less, .ref h_aside, .ref h_order], ai G h_tape 70 tape]) A) args s 0 0 A) (F0 m 0 ls []) := by
  have C9 := C
  obtain ⟨hx, hb, hr, hlocks, hml, hown, hts, hK, hA⟩ := C9
  intro n
  induction n with
  | zero => intro atv H locs hP hD hS ls hl hw; exact False.elim hw
  | succ n ih =>
    intro atv H locs hP hD hS ls hl hw
    unfold wp_X9_skips_0 at hw
    refine lv_aload_n hx hb dX9_skips_0 rfl (lv_at hl 0 rfl) ?_
    refine lv_aload_n hx hb dX9_skips_1 rfl (lv_at hl 0 rfl) ?_
    refine va_get (D := G.1) (ci := 9) (v := .int atv) (C := RX9) (T := TX9) (N := 14) hx hb hts in_X9 hown hK.1 hP 0 rfl rfl 6 (by decide) (hts _ q823) (fun _ h9 => h9) rfl dX9_skips_2 ?_
    have hPc := hP.sub (ws' := [oc h 9 [.ref h_s, .ref h_images, .int kept, .ref h_tape, .int typed, .ref h_draft, .int atv, .ref h_items, .ref h_moved, .ref h_sizes, .ref h_lanes, .ref h_less, .ref h_aside, .ref h_order], ai G h_tape 70 tape]) [0, 1] rfl
    have hDc := hD.sub (ws' := [oc h 9 [.ref h_s, .ref h_images, .int kept, .ref h_tape, .int typed, .ref h_draft, .int atv, .ref h_items, .ref h_moved, .ref h_sizes, .ref h_lanes, .ref h_less, .ref h_aside, .ref h_order], ai G h_tape 70 tape]) [0, 1] (by decide) rfl
    have hFc := va_free (wc := [oc h 9 [.ref h_s, .ref h_images, .int kept, .ref h_tape, .int typed, .ref h_draft, .int atv, .ref h_items, .ref h_moved, .ref h_sizes, .ref h_lanes, .ref h_less, .ref h_aside, .ref h_order], ai G h_tape 70 tape]) hD hS hA [0, 1] rfl
    refine va_calli (va_runV (As := [.int atv]) (rest := []) ⟨hx, hb, hml, hown, hts⟩ (mt_X9_letterAt l G h h_s h_images h_tape h_draft h_items h_moved h_sizes h_lanes h_less h_aside h_order H.size kept typed atv tape atv _ hw) (cwV 1 hts (lw_V q934 q936 qs37 q65 q937) rfl rfl rfl (by decide +kernel) ⟨Nat.le_of_ble_eq_true rfl, Nat.le_of_ble_eq_true rfl⟩) ⟨fun a U g mk q => by obtain ⟨q0, q1, qP, qK, qD⟩ := q; exact ⟨q0, q1, qP, qK.call, qD⟩, va_recv hK.1 hP (ci := 9) (q0 := 0) rfl rfl, fun U hU hW => ⟨rfl, by rw [hU], by rw [hU]; exact hPc, hK.warm hW, hDc.weaken (fun _ _ _ _ => trivial)⟩⟩ rfl rfl hl.1 rfl (lv_room (Nat.le_of_ble_eq_true rfl)) dX9_skips_5 ⟨Nat.le_of_ble_eq_true rfl, Nat.le_of_ble_eq_true rfl⟩) hS (fun q _ h => hFc q h) hFc (fun r_1 _ t H1 locs ht hvm hw hB hz1 hk1 hS => ?_)
    obtain ⟨hP1, hD1⟩ := hB
    rw [ht] at hP1
    obtain ⟨hP, hD⟩ := va_join (wr := []) (w1 := [oc h 9 [.ref h_s, .ref h_images, .int kept, .ref h_tape, .int typed, .ref h_draft, .int atv, .ref h_items, .ref h_moved, .ref h_sizes, .ref h_lanes, .ref h_less, .ref h_aside, .ref h_order], ai G h_tape 70 tape]) hP hD [0, 1] [] rfl rfl (by decide) (by decide) hk1 hFc hP1 hD1
    clear hPc hDc hFc hP1 hD1 hz1 hk1 hvm
    generalize H1 = H at hP hS ⊢
    have hP : va_P G.1 gCl [oc h 9 [.ref h_s, .ref h_images, .int kept, .ref h_tape, .int typed, .ref h_draft, .int atv, .ref h_items, .ref h_moved, .ref h_sizes, .ref h_lanes, .ref h_less, .ref h_aside, .ref h_order], ai G h_tape 70 tape] H := hP
    have hD : va_D A [oc h 9 [.ref h_s, .ref h_images, .int kept, .ref h_tape, .int typed, .ref h_draft, .int atv, .ref h_items, .ref h_moved, .ref h_sizes, .ref h_lanes, .ref h_less, .ref h_aside, .ref h_order], ai G h_tape 70 tape] := hD
    refine lv_bipush (v := (32 : Int32)) hx hb dX9_skips_8 (by decide) ?_
    refine lv_icmp_ne (tgt := 26) hx hb dX9_skips_10 (by decide) (fun c_2 => ?_) (fun c_2 => ?_)
    · replace hw := hw.1 c_2
      refine lv_aload_n hx hb dX9_skips_26 rfl (lv_at hl 0 rfl) ?_
      refine lv_aload_n hx hb dX9_skips_27 rfl (lv_at hl 0 rfl) ?_
      refine va_get (D := G.1) (ci := 9) (v := .int atv) (C := RX9) (T := TX9) (N := 14) hx hb hts in_X9 hown hK.1 hP 0 rfl rfl 6 (by decide) (hts _ q823) (fun _ h9 => h9) rfl dX9_skips_28 ?_
      have hPc := hP.sub (ws' := [oc h 9 [.ref h_s, .ref h_images, .int kept, .ref h_tape, .int typed, .ref h_draft, .int atv, .ref h_items, .ref h_moved, .ref h_sizes, .ref h_lanes, .ref h_less, .ref h_aside, .ref h_order], ai G h_tape 70 tape]) [0, 1] rfl
      have hDc := hD.sub (ws' := [oc h 9 [.ref h_s, .ref h_images, .int kept, .ref h_tape, .int typed, .ref h_draft, .int atv, .ref h_items, .ref h_moved, .ref h_sizes, .ref h_lanes, .ref h_less, .ref h_aside, .ref h_order], ai G h_tape 70 tape]) [0, 1] (by decide) rfl
      have hFc := va_free (wc := [oc h 9 [.ref h_s, .ref h_images, .int kept, .ref h_tape, .int typed, .ref h_draft, .int atv, .ref h_items, .ref h_moved, .ref h_sizes, .ref h_lanes, .ref h_less, .ref h_aside, .ref h_order], ai G h_tape 70 tape]) hD hS hA [0, 1] rfl
      refine va_calli (va_runV (As := [.int atv]) (rest := []) ⟨hx, hb, hml, hown, hts⟩ (mt_X9_letterAt l G h h_s h_images h_tape h_draft h_items h_moved h_sizes h_lanes h_less h_aside h_order H.size kept typed atv tape atv _ hw) (cwV 1 hts (lw_V q934 q936 qs37 q65 q937) rfl rfl rfl (by decide +kernel) ⟨Nat.le_of_ble_eq_true rfl, Nat.le_of_ble_eq_true rfl⟩) ⟨fun a U g mk q => by obtain ⟨q0, q1, qP, qK, qD⟩ := q; exact ⟨q0, q1, qP, qK.call, qD⟩, va_recv hK.1 hP (ci := 9) (q0 := 0) rfl rfl, fun U hU hW => ⟨rfl, by rw [hU], by rw [hU]; exact hPc, hK.warm hW, hDc.weaken (fun _ _ _ _ => trivial)⟩⟩ rfl rfl hl.1 rfl (lv_room (Nat.le_of_ble_eq_true rfl)) dX9_skips_31 ⟨Nat.le_of_ble_eq_true rfl, Nat.le_of_ble_eq_true rfl⟩) hS (fun q _ h => hFc q h) hFc (fun r_3 _ t H1 locs ht hvm hw hB hz1 hk1 hS => ?_)
      obtain ⟨hP1, hD1⟩ := hB
      rw [ht] at hP1
      obtain ⟨hP, hD⟩ := va_join (wr := []) (w1 := [oc h 9 [.ref h_s, .ref h_images, .int kept, .ref h_tape, .int typed, .ref h_draft, .int atv, .ref h_items, .ref h_moved, .ref h_sizes, .ref h_lanes, .ref h_less, .ref h_aside, .ref h_order], ai G h_tape 70 tape]) hP hD [0, 1] [] rfl rfl (by decide) (by decide) hk1 hFc hP1 hD1
      clear hPc hDc hFc hP1 hD1 hz1 hk1 hvm
      generalize H1 = H at hP hS ⊢
      have hP : va_P G.1 gCl [oc h 9 [.ref h_s, .ref h_images, .int kept, .ref h_tape, .int typed, .ref h_draft, .int atv, .ref h_items, .ref h_moved, .ref h_sizes, .ref h_lanes, .ref h_less, .ref h_aside, .ref h_order], ai G h_tape 70 tape] H := hP
      have hD : va_D A [oc h 9 [.ref h_s, .ref h_images, .int kept, .ref h_tape, .int typed, .ref h_draft, .int atv, .ref h_items, .ref h_moved, .ref h_sizes, .ref h_lanes, .ref h_less, .ref h_aside, .ref h_order], ai G h_tape 70 tape] := hD
      have hP9 := hP
      have hD9 := hD
      exact W.iret (v := r_3) hx hb hr (fun t ht hW => ⟨⟨r_3, atv, rfl, hw, by rw [ht]; exact hP9, hD9⟩, hS.F ht⟩) hS.2.2 dX9_skips_34
    · replace hw := hw.2 c_2
      refine lv_aload_n hx hb dX9_skips_13 rfl (lv_at hl 0 rfl) ?_
      refine lv_dup hx hb dX9_skips_14 rfl ?_
      refine va_get (D := G.1) (ci := 9) (v := .int atv) (C := RX9) (T := TX9) (N := 14) hx hb hts in_X9 hown hK.1 hP 0 rfl rfl 6 (by decide) (hts _ q823) (fun _ h9 => h9) rfl dX9_skips_15 ?_
      refine lv_iconst (v := (1 : Int32)) hx hb dX9_skips_18 (by decide) ?_
      refine lv_iadd hx hb dX9_skips_19 ?_
      refine lv_topi (fun v_4 ev_4 => ?_)
      replace hw := hw v_4 ev_4
      refine va_put (D := G.1) (ci := 9) (v := .int v_4) (ty := .int) (C := RX9) (T := TX9) (N := 14) hx hb hts in_X9 tyX9 tyX9_ok nmX9 hown hK.1 hP hD hS 0 rfl rfl 6 (by decide) (hts _ q823) (fun _ h9 => h9) rfl (by decide +kernel) rfl rfl (Nat.le_of_ble_eq_true rfl) dX9_skips_20 (fun H locs hP hD hS => ?_)
      have hP : va_P G.1 gCl [oc h 9 [.ref h_s, .ref h_images, .int kept, .ref h_tape, .int typed, .ref h_draft, .int v_4, .ref h_items, .ref h_moved, .ref h_sizes, .ref h_lanes, .ref h_less, .ref h_aside, .ref h_order], ai G h_tape 70 tape] H := hP
      have hD : va_D A [oc h 9 [.ref h_s, .ref h_images, .int kept, .ref h_tape, .int typed, .ref h_draft, .int v_4, .ref h_items, .ref h_moved, .ref h_sizes, .ref h_lanes, .ref h_less, .ref h_aside, .ref h_order], ai G h_tape 70 tape] := hD
      refine lv_goto (tgt := 0) hx hb dX9_skips_23 (by decide) ?_
      exact ih v_4 H locs hP hD hS ls (lv_sub hl [0] rfl) hw
def wp_X9_skips (typed : Int32) (atv : Int32) (tape : Nat → Int32) (Q : Int32 → (Int32) → Prop) : Prop :=
  (∃ j_ : Nat, wp_X9_skips_0 typed tape Q  j_ atv)
set_option maxHeartbeats 4000000 in
theorem mt_X9_skips (l : Launch) (G : GT) (h h_s h_images h_tape h_draft h_items h_moved h_sizes h_lanes h_less h_aside h_order : Nat) (sz : Nat) (kept : Int32) (typed : Int32) (atv : Int32) (tape : Nat → Int32) (Q : Int32 → (Int32) → Prop) (hw : wp_X9_skips typed atv tape Q) : Met l yX9_skips (ws_ yX9_skips cX9_skips 1 (some .int)) ({ frames := 1, cells := 0, slots := 0, locals := 21 } : Room) (va_Pc [.ref h] (fun U => U.heap.size = sz ∧ va_P G.1 gCl [oc h 9 [.ref h_s, .ref h_images, .int kept, .ref h_tape, .int typed, .ref h_draft, .int atv, .ref h_items, .ref h_moved, .ref h_sizes, .ref h_lanes, .ref h_less, .ref h_aside, .ref h_order], ai G h_tape 70 tape] U.heap ∧ gK G U ∧ va_D (fun _ => True) [oc h 9 [.ref h_s, .ref h_images, .int kept, .ref h_tape, .int typed, .ref h_draft, .int atv, .ref h_items, .ref h_moved, .ref h_sizes, .ref h_lanes, .ref h_less, .ref h_aside, .ref h_order], ai G h_tape 70 tape])) ((fun A => (va_Qi (fun (r : Int32) (u : Int32) => Q r u) (fun u t => va_P G.1 gCl [oc h 9 [.ref h_s, .ref h_images, .int kept, .ref h_tape, .int typed, .ref h_draft, .int u, .ref h_items, .ref h_moved, .ref h_sizes, .ref h_lanes, .ref h_less, .ref h_aside, .ref h_order], ai G h_tape 70 tape] t.heap ∧ va_D A [oc h 9 [.ref h_s, .ref h_images, .int kept, .ref h_tape, .int typed, .ref h_draft, .int u, .ref h_items, .ref h_moved, .ref h_sizes, .ref h_lanes, .ref h_less, .ref h_aside, .ref h_order], ai G h_tape 70 tape]) A)) (va_A [oc h 9 [.ref h_s, .ref h_images, .int kept, .ref h_tape, .int typed, .ref h_draft, .int atv, .ref h_items, .ref h_moved, .ref h_sizes, .ref h_lanes, .ref h_less, .ref h_aside, .ref h_order], ai G h_tape 70 tape] sz)) 0 0 (va_A [oc h 9 [.ref h_s, .ref h_images, .int kept, .ref h_tape, .int typed, .ref h_draft, .int atv, .ref h_items, .ref h_moved, .ref h_sizes, .ref h_lanes, .ref h_less, .ref h_aside, .ref h_order], ai G h_tape 70 tape] sz) := by
  refine Met.ofW (cc := cX9_skips) (maxL := 1) (ret := (some .int)) (by decide) rfl ?_
  intro p e s m args below meth c s₁ B hml hv
  obtain ⟨rfl, hsz, hP, hK, hD0⟩ := hv
  have hx := B.exec
  have hb := B.bytes
  have hr := B.returns
  have hts := atoms_spec (ws := (ws_ yX9_skips cX9_skips 1 (some .int))) B.pre
  have hts : ∀ w ∈ lw_all, w.before _ s = true := fun w h => hts w (List.mem_cons_of_mem _ h)
  have hown : s.vm.findClass RX9 = some m.cls := findClass_of_methodNamed B.named
  have hlocks := B.notSynchronized
  subst hsz
  have hD := hD0.self (sz := s.heap.size)
  generalize hAe : va_A [oc h 9 [.ref h_s, .ref h_images, .int kept, .ref h_tape, .int typed, .ref h_draft, .int atv, .ref h_items, .ref h_moved, .ref h_sizes, .ref h_lanes, .ref h_less, .ref h_aside, .ref h_order], ai G h_tape 70 tape] s.heap.size = A at hD ⊢
  have hA : ∀ q : Nat, s.heap.size ≤ q → A q := fun q h => by rw [← hAe]; exact Or.inr h
  have hS : va_S A s.heap s.heap [] := va_S.rf
  have C : Cx p s m meth c cX9_skips 1 (some .int) RX9 ([.ref h] : List Value).toArray G A := ⟨hx, hb, hr, hlocks, hml, hown, hts, hK, hA⟩
  have hl := lv_entry ([.ref h]) (n := 1) (Nat.le_of_ble_eq_true rfl)
  rw [lg_entry_eq]
  generalize (lg_sl ([.ref h]) ++ List.replicate (1 - (lg_sl ([.ref h])).length) Slot.unset).toArray = ls at hl ⊢
  have hl : lv_has ls 1 [(0, .ref h)] := hl
  unfold wp_X9_skips at hw
  obtain ⟨j_, hw⟩ := hw
  exact wk_X9_skips_0 h h_s h_images h_tape h_draft h_items h_moved h_sizes h_lanes h_less h_aside h_order kept typed tape  Q  C  j_ atv s.heap [] hP hD hS ls (lv_sub hl [0] rfl) hw
/-! BattleBenchModel.kindBy(I)I -/
def wp_X9_kindBy (p0 : Int32) (Q : Int32 → Prop) : Prop :=
  ((¬ (p0 = (112 : Int32)) → ((¬ (p0 = (104 : Int32)) → ((¬ (p0 = (117 : Int32)) → ((¬ (p0 = (100 : Int32)) → ((¬ (p0 = (114 : Int32)) → Q (-4 : Int32)) ∧ ((p0 = (114 : Int32)) → Q (4 : Int32)))) ∧ ((p0 = (100 : Int32)) → Q (3 : Int32)))) ∧ ((p0 = (117 : Int32)) → Q (2 : Int32)))) ∧ ((p0 = (104 : Int32)) → Q (1 : Int32)))) ∧ ((p0 = (112 : Int32)) → Q (0 : Int32)))
set_option maxHeartbeats 4000000 in
theorem mt_X9_kindBy (l : Launch) (G : GT)  (sz : Nat) (p0 : Int32) (Q : Int32 → Prop) (hw : wp_X9_kindBy p0 Q) : Met l yX9_kindBy (ws_ yX9_kindBy cX9_kindBy 1 (some .int)) ({ frames := 0, cells := 0, slots := 0, locals := 0 } : Room) (va_Pc [.int p0] (fun U => U.heap.size = sz ∧ va_P G.1 gCl [] U.heap ∧ gK G U ∧ va_D (fun _ => True) [])) ((fun A => (va_Qi (fun (r : Int32) (u : Unit) => Q r ) (fun u t => va_P G.1 gCl [] t.heap ∧ va_D A []) A)) (va_A [] sz)) 0 0 (va_A [] sz) := by
  refine Met.ofW (cc := cX9_kindBy) (maxL := 1) (ret := (some .int)) (by decide) rfl ?_
  intro p e s m args below meth c s₁ B hml hv
  obtain ⟨rfl, hsz, hP, hK, hD0⟩ := hv
  have hx := B.exec
  have hb := B.bytes
  have hr := B.returns
  have hts := atoms_spec (ws := (ws_ yX9_kindBy cX9_kindBy 1 (some .int))) B.pre
  have hts : ∀ w ∈ lw_all, w.before _ s = true := fun w h => hts w (List.mem_cons_of_mem _ h)
  have hown : s.vm.findClass RX9 = some m.cls := findClass_of_methodNamed B.named
  have hlocks := B.notSynchronized
  subst hsz
  have hD := hD0.self (sz := s.heap.size)
  generalize hAe : va_A [] s.heap.size = A at hD ⊢
  have hA : ∀ q : Nat, s.heap.size ≤ q → A q := fun q h => by rw [← hAe]; exact Or.inr h
  have hS : va_S A s.heap s.heap [] := va_S.rf
  have C : Cx p s m meth c cX9_kindBy 1 (some .int) RX9 ([.int p0] : List Value).toArray G A := ⟨hx, hb, hr, hlocks, hml, hown, hts, hK, hA⟩
  have hl := lv_entry ([.int p0]) (n := 1) (Nat.le_of_ble_eq_true rfl)
  rw [lg_entry_eq]
  generalize (lg_sl ([.int p0]) ++ List.replicate (1 - (lg_sl ([.int p0])).length) Slot.unset).toArray = ls at hl ⊢
  have hl : lv_has ls 1 [(0, .int p0)] := hl
  unfold wp_X9_kindBy at hw
  refine lv_iload_n hx hb dX9_kindBy_0 rfl (lv_at hl 0 rfl) ?_
  refine lv_bipush (v := (112 : Int32)) hx hb dX9_kindBy_1 (by decide) ?_
  refine lv_icmp_ne (tgt := 10) hx hb dX9_kindBy_3 (by decide) (fun c_1 => ?_) (fun c_1 => ?_)
  · replace hw := hw.1 c_1
    refine lv_iload_n hx hb dX9_kindBy_10 rfl (lv_at hl 0 rfl) ?_
    refine lv_bipush (v := (104 : Int32)) hx hb dX9_kindBy_11 (by decide) ?_
    refine lv_icmp_ne (tgt := 20) hx hb dX9_kindBy_13 (by decide) (fun c_2 => ?_) (fun c_2 => ?_)
    · replace hw := hw.1 c_2
      refine lv_iload_n hx hb dX9_kindBy_20 rfl (lv_at hl 0 rfl) ?_
      refine lv_bipush (v := (117 : Int32)) hx hb dX9_kindBy_21 (by decide) ?_
      refine lv_icmp_ne (tgt := 30) hx hb dX9_kindBy_23 (by decide) (fun c_3 => ?_) (fun c_3 => ?_)
      · replace hw := hw.1 c_3
        refine lv_iload_n hx hb dX9_kindBy_30 rfl (lv_at hl 0 rfl) ?_
        refine lv_bipush (v := (100 : Int32)) hx hb dX9_kindBy_31 (by decide) ?_
        refine lv_icmp_ne (tgt := 40) hx hb dX9_kindBy_33 (by decide) (fun c_4 => ?_) (fun c_4 => ?_)
        · replace hw := hw.1 c_4
          refine lv_iload_n hx hb dX9_kindBy_40 rfl (lv_at hl 0 rfl) ?_
          refine lv_bipush (v := (114 : Int32)) hx hb dX9_kindBy_41 (by decide) ?_
          refine lv_icmp_ne (tgt := 50) hx hb dX9_kindBy_43 (by decide) (fun c_5 => ?_) (fun c_5 => ?_)
          · replace hw := hw.1 c_5
            refine lv_bipush (v := (-4 : Int32)) hx hb dX9_kindBy_50 (by decide) ?_
            have hP9 := hP
            have hD9 := hD
            exact W.iret (v := (-4 : Int32)) hx hb hr (fun t ht hW => ⟨⟨(-4 : Int32), (), rfl, hw, by rw [ht]; exact hP9, hD9⟩, hS.F ht⟩) hS.2.2 dX9_kindBy_52
          · replace hw := hw.2 c_5
            refine lv_iconst (v := (4 : Int32)) hx hb dX9_kindBy_46 (by decide) ?_
            refine lv_goto (tgt := 52) hx hb dX9_kindBy_47 (by decide) ?_
            have hP9 := hP
            have hD9 := hD
            exact W.iret (v := (4 : Int32)) hx hb hr (fun t ht hW => ⟨⟨(4 : Int32), (), rfl, hw, by rw [ht]; exact hP9, hD9⟩, hS.F ht⟩) hS.2.2 dX9_kindBy_52
        · replace hw := hw.2 c_4
          refine lv_iconst (v := (3 : Int32)) hx hb dX9_kindBy_36 (by decide) ?_
          refine lv_goto (tgt := 52) hx hb dX9_kindBy_37 (by decide) ?_
          have hP9 := hP
          have hD9 := hD
          exact W.iret (v := (3 : Int32)) hx hb hr (fun t ht hW => ⟨⟨(3 : Int32), (), rfl, hw, by rw [ht]; exact hP9, hD9⟩, hS.F ht⟩) hS.2.2 dX9_kindBy_52
      · replace hw := hw.2 c_3
        refine lv_iconst (v := (2 : Int32)) hx hb dX9_kindBy_26 (by decide) ?_
        refine lv_goto (tgt := 52) hx hb dX9_kindBy_27 (by decide) ?_
        have hP9 := hP
        have hD9 := hD
        exact W.iret (v := (2 : Int32)) hx hb hr (fun t ht hW => ⟨⟨(2 : Int32), (), rfl, hw, by rw [ht]; exact hP9, hD9⟩, hS.F ht⟩) hS.2.2 dX9_kindBy_52
    · replace hw := hw.2 c_2
      refine lv_iconst (v := (1 : Int32)) hx hb dX9_kindBy_16 (by decide) ?_
      refine lv_goto (tgt := 52) hx hb dX9_kindBy_17 (by decide) ?_
      have hP9 := hP
      have hD9 := hD
      exact W.iret (v := (1 : Int32)) hx hb hr (fun t ht hW => ⟨⟨(1 : Int32), (), rfl, hw, by rw [ht]; exact hP9, hD9⟩, hS.F ht⟩) hS.2.2 dX9_kindBy_52
  · replace hw := hw.2 c_1
    refine lv_iconst (v := (0 : Int32)) hx hb dX9_kindBy_6 (by decide) ?_
    refine lv_goto (tgt := 52) hx hb dX9_kindBy_7 (by decide) ?_
    have hP9 := hP
    have hD9 := hD
    exact W.iret (v := (0 : Int32)) hx hb hr (fun t ht hW => ⟨⟨(0 : Int32), (), rfl, hw, by rw [ht]; exact hP9, hD9⟩, hS.F ht⟩) hS.2.2 dX9_kindBy_52
/-! BattleBenchModel.isDigit(I)Z -/
def wp_X9_isDigit (p0 : Int32) (Q : Int32 → Prop) : Prop :=
  wp_X9_in  p0 (48 : Int32) (57 : Int32) (fun r_1 => (z01 r_1 ∧ Q r_1))
set_option maxHeartbeats 4000000 in
theorem mt_X9_isDigit (l : Launch) (G : GT)  (sz : Nat) (p0 : Int32) (Q : Int32 → Prop) (hw : wp_X9_isDigit p0 Q) : Met l yX9_isDigit (ws_ yX9_isDigit cX9_isDigit 1 (some .boolean)) ({ frames := 1, cells := 0, slots := 0, locals := 22 } : Room) (va_Pc [.int p0] (fun U => U.heap.size = sz ∧ va_P G.1 gCl [] U.heap ∧ gK G U ∧ va_D (fun _ => True) [])) ((fun A => (va_Qi (fun (r : Int32) (u : Unit) => Q r ) (fun u t => va_P G.1 gCl [] t.heap ∧ va_D A []) A)) (va_A [] sz)) 0 0 (va_A [] sz) := by
  refine Met.ofW (cc := cX9_isDigit) (maxL := 1) (ret := (some .boolean)) (by decide) rfl ?_
  intro p e s m args below meth c s₁ B hml hv
  obtain ⟨rfl, hsz, hP, hK, hD0⟩ := hv
  have hx := B.exec
  have hb := B.bytes
  have hr := B.returns
  have hts := atoms_spec (ws := (ws_ yX9_isDigit cX9_isDigit 1 (some .boolean))) B.pre
  have hts : ∀ w ∈ lw_all, w.before _ s = true := fun w h => hts w (List.mem_cons_of_mem _ h)
  have hown : s.vm.findClass RX9 = some m.cls := findClass_of_methodNamed B.named
  have hlocks := B.notSynchronized
  subst hsz
  have hD := hD0.self (sz := s.heap.size)
  generalize hAe : va_A [] s.heap.size = A at hD ⊢
  have hA : ∀ q : Nat, s.heap.size ≤ q → A q := fun q h => by rw [← hAe]; exact Or.inr h
  have hS : va_S A s.heap s.heap [] := va_S.rf
  have C : Cx p s m meth c cX9_isDigit 1 (some .boolean) RX9 ([.int p0] : List Value).toArray G A := ⟨hx, hb, hr, hlocks, hml, hown, hts, hK, hA⟩
  have hl := lv_entry ([.int p0]) (n := 1) (Nat.le_of_ble_eq_true rfl)
  rw [lg_entry_eq]
  generalize (lg_sl ([.int p0]) ++ List.replicate (1 - (lg_sl ([.int p0])).length) Slot.unset).toArray = ls at hl ⊢
  have hl : lv_has ls 1 [(0, .int p0)] := hl
  unfold wp_X9_isDigit at hw
  refine lv_iload_n hx hb dX9_isDigit_0 rfl (lv_at hl 0 rfl) ?_
  refine lv_bipush (v := (48 : Int32)) hx hb dX9_isDigit_1 (by decide) ?_
  refine lv_bipush (v := (57 : Int32)) hx hb dX9_isDigit_3 (by decide) ?_
  have hPc := hP.sub (ws' := []) [] rfl
  have hDc := hD.sub (ws' := []) [] (by decide) rfl
  have hFc := va_free (wc := []) hD hS hA [] rfl
  refine va_calli (va_runS (As := [.int p0, .int (48 : Int32), .int (57 : Int32)]) (rest := []) ⟨hx, hb, hml, hown, hts⟩ (mt_X9_in l G  s.heap.size  p0 (48 : Int32) (57 : Int32) _ hw) (va_cwS 3 hts (lw_S q864 q865 q65 q866) rfl rfl rfl (by decide +kernel) ⟨Nat.le_of_ble_eq_true rfl, Nat.le_of_ble_eq_true rfl⟩) ⟨fun a U g mk q => by obtain ⟨q0, q1, qP, qK, qD⟩ := q; exact ⟨q0, q1, qP, qK.call, qD⟩, fun U hU hW => ⟨rfl, by rw [hU], by rw [hU]; exact hPc, hK.warm hW, hDc.weaken (fun _ _ _ _ => trivial)⟩⟩ rfl rfl hl.1 rfl (lv_room (Nat.le_of_ble_eq_true rfl)) dX9_isDigit_5 ⟨Nat.le_of_ble_eq_true rfl, Nat.le_of_ble_eq_true rfl⟩) hS (fun q _ h => hFc q h) hFc (fun r_1 _ t H1 locs ht hvm hw hB hz1 hk1 hS => ?_)
  obtain ⟨hP1, hD1⟩ := hB
  rw [ht] at hP1
  obtain ⟨hP, hD⟩ := va_join (wr := []) (w1 := []) hP hD [] [] rfl rfl (by decide) (by decide) hk1 hFc hP1 hD1
  clear hPc hDc hFc hP1 hD1 hz1 hk1 hvm
  generalize H1 = H at hP hS ⊢
  have hP : va_P G.1 gCl [] H := hP
  have hD : va_D A [] := hD
  obtain ⟨hz, hw⟩ := hw
  have hP9 := hP
  have hD9 := hD
  exact W.zret (v := r_1) hx hb hr (z01.nar hz) (fun t ht hW => ⟨⟨r_1, (), rfl, hw, by rw [ht]; exact hP9, hD9⟩, hS.F ht⟩) hS.2.2 dX9_isDigit_8
/-! BattleBenchModel.isTold(III)Z -/
def wp_X9_isTold_6 (draft : Nat → Int32) (p1 : Int32) (p2 : Int32) (p3 : Int32) (Q : Int32 → Prop)  : Nat → Int32 → Int32 → Prop
  | 0, _, _ => False
  | n + 1, x4, x5 =>
    (((p1 ≤ x5) → (z01 x4 ∧ Q x4)) ∧ (¬ (p1 ≤ x5) → ((¬ (x4 = 0) → wp_X9_isTold_6 draft p1 p2 p3 Q  n (1 : Int32) (x5 + (1 : Int32))) ∧ ((x4 = 0) → (vp_in (((22 : Int32) + ((3 : Int32) * x5)) + p2) 40 ∧ ((¬ ((draft ((((22 : Int32) + ((3 : Int32) * x5)) + p2)).toNatClampNeg) = p3) → wp_X9_isTold_6 draft p1 p2 p3 Q  n (0 : Int32) (x5 + (1 : Int32))) ∧ (((draft ((((22 : Int32) + ((3 : Int32) * x5)) + p2)).toNatClampNeg) = p3) → wp_X9_isTold_6 draft p1 p2 p3 Q  n (1 : Int32) (x5 + (1 : Int32)))))))))
set_option maxHeartbeats 4000000 in
theorem wk_X9_isTold_6 {p : Program} {l : Launch} {e : Env} {s : State} {m : MethodId} {below : List Frame} {meth : Method} {c : Code} {args : Array Value} {G : GT} {A : Nat → Prop} (h h_s h_images h_tape h_draft h_items h_moved h_sizes h_lanes h_less h_aside h_order : Nat) (kept : Int32) (typed : Int32) (atv : Int32) (draft : Nat → Int32) (p1 : Int32) (p2 : Int32) (p3 : Int32) (Q : Int32 → Prop)  (C : Cx p s m meth c cX9_isTold 6 (some .boolean) RX9 args G A)  :
    ∀ (n : Nat), ∀  (x4 : Int32) (x5 : Int32) (H : Heap) (locs : List Loc), va_P G.1 gCl [oc h 9 [.ref h_s, .ref h_images, .int kept, .ref h_tape, .int typed, .ref h_draft, .int atv, .ref h_items, .ref h_moved, .ref h_sizes, .ref h_lanes, .ref h_less, .ref h_aside, .ref h_order], ai G h_draft 40 draft] H → va_D A [oc h 9 [.ref h_s, .ref h_images, .int kept, .ref h_tape, .int typed, .ref h_draft, .int atv, .ref h_items, .ref h_moved, .ref h_sizes, .ref h_lanes, .ref h_less, .ref h_aside, .ref h_order], ai G h_draft 40 draft] → va_S A s.heap H locs → ∀ (ls : Array Slot), lv_has ls 6 [(0, .ref h), (1, .int p1), (2, .int p2), (3, .int p3), (4, .int x4), (5, .int x5)] → wp_X9_isTold_6 draft p1 p2 p3 Q  n x4 x5 → W p l e ({ frames := 0, cells := 0, slots := 0, locals := 0 } : Room) s m args below meth c H locs 0 0 (MQ below (va_Qi (fun (r : Int32) (u : Unit) => Q r ) (fun u t => va_P G.1 gCl [oc h 9 [.ref h_s, .ref h_images, .int kept, .ref h_tape, .int typed, .ref h_draft, .int atv, .ref h_items, .ref h_moved, .ref h_sizes, .ref h_lanes, .ref h_less, .ref h_aside, .ref h_order], ai G h_draft 40 draft] t.heap ∧ va_D A [oc h 9 [.ref h_s, .ref h_images, .int kept, .ref h_tape, .int typed, .ref h_draft, .int atv, .ref h_items, .ref h_moved, .ref h_sizes, .ref h_lanes, .ref h_less, .ref h_aside, .ref h_order], ai G h_draft 40 draft]) A) args s 0 0 A) (F0 m 6 ls []) := by
  have C9 := C
  obtain ⟨hx, hb, hr, hlocks, hml, hown, hts, hK, hA⟩ := C9
  intro n
  induction n with
  | zero => intro x4 x5 H locs hP hD hS ls hl hw; exact False.elim hw
  | succ n ih =>
    intro x4 x5 H locs hP hD hS ls hl hw
    unfold wp_X9_isTold_6 at hw
    refine lv_iload hx hb dX9_isTold_6 (lv_at hl 5 rfl) ?_
    refine lv_iload_n hx hb dX9_isTold_8 rfl (lv_at hl 1 rfl) ?_
    refine lv_icmp_ge (tgt := 48) hx hb dX9_isTold_9 (by decide) (fun c_1 => ?_) (fun c_1 => ?_)
    · replace hw := hw.1 c_1
      refine lv_iload hx hb dX9_isTold_48 (lv_at hl 4 rfl) ?_
      obtain ⟨hz, hw⟩ := hw
      have hP9 := hP
      have hD9 := hD
      exact W.zret (v := x4) hx hb hr (z01.nar hz) (fun t ht hW => ⟨⟨x4, (), rfl, hw, by rw [ht]; exact hP9, hD9⟩, hS.F ht⟩) hS.2.2 dX9_isTold_50
    · replace hw := hw.2 c_1
      refine lv_iload hx hb dX9_isTold_12 (lv_at hl 4 rfl) ?_
      refine lv_if_ne (tgt := 35) hx hb dX9_isTold_14 (by decide) (fun c_2 => ?_) (fun c_2 => ?_)
      · replace hw := hw.1 c_2
        refine lv_iconst (v := (1 : Int32)) hx hb dX9_isTold_35 (by decide) ?_
        refine lv_goto (tgt := 40) hx hb dX9_isTold_36 (by decide) ?_
        refine lv_istore (lv' := [(4, .int (1 : Int32)), (0, .ref h), (1, .int p1), (2, .int p2), (3, .int p3), (5, .int x5)]) hx hb dX9_isTold_40 hl (by decide) rfl (fun ls hl => ?_)
        refine lv_iinc (v := (x5 + (1 : Int32))) (lv' := [(5, .int (x5 + (1 : Int32))), (4, .int (1 : Int32)), (0, .ref h), (1, .int p1), (2, .int p2), (3, .int p3)]) hx hb dX9_isTold_42 hl (k := 5) rfl rfl (by decide) rfl (fun ls hl => ?_)
        refine lv_goto (tgt := 6) hx hb dX9_isTold_45 (by decide) ?_
        exact ih (1 : Int32) (x5 + (1 : Int32)) H locs hP hD hS ls (lv_sub hl [2, 3, 4, 5, 1, 0] rfl) hw
      · replace hw := hw.2 c_2
        refine lv_aload_n hx hb dX9_isTold_17 rfl (lv_at hl 0 rfl) ?_
        refine va_get (D := G.1) (ci := 9) (v := .ref h_draft) (C := RX9) (T := TX9) (N := 14) hx hb hts in_X9 hown hK.1 hP 0 rfl rfl 5 (by decide) (hts _ q822) (fun _ h9 => h9) rfl dX9_isTold_18 ?_
        refine lv_bipush (v := (22 : Int32)) hx hb dX9_isTold_21 (by decide) ?_
        refine lv_iconst (v := (3 : Int32)) hx hb dX9_isTold_23 (by decide) ?_
        refine lv_iload hx hb dX9_isTold_24 (lv_at hl 5 rfl) ?_
        refine lv_imul hx hb dX9_isTold_26 ?_
        refine lv_iadd hx hb dX9_isTold_27 ?_
        refine lv_iload_n hx hb dX9_isTold_28 rfl (lv_at hl 2 rfl) ?_
        refine lv_iadd hx hb dX9_isTold_29 ?_
        obtain ⟨i_3, hw⟩ := hw
        refine z_iald hx hb hK.1 hP 1 0 rfl rfl i_3 dX9_isTold_30 (k := ((((22 : Int32) + ((3 : Int32) * x5)) + p2)).toNatClampNeg) rfl ?_
        refine lv_iload_n hx hb dX9_isTold_31 rfl (lv_at hl 3 rfl) ?_
        refine lv_icmp_ne (tgt := 39) hx hb dX9_isTold_32 (by decide) (fun c_4 => ?_) (fun c_4 => ?_)
        · replace hw := hw.1 c_4
          refine lv_iconst (v := (0 : Int32)) hx hb dX9_isTold_39 (by decide) ?_
          refine lv_istore (lv' := [(4, .int (0 : Int32)), (0, .ref h), (1, .int p1), (2, .int p2), (3, .int p3), (5, .int x5)]) hx hb dX9_isTold_40 hl (by decide) rfl (fun ls hl => ?_)
          refine lv_iinc (v := (x5 + (1 : Int32))) (lv' := [(5, .int (x5 + (1 : Int32))), (4, .int (0 : Int32)), (0, .ref h), (1, .int p1), (2, .int p2), (3, .int p3)]) hx hb dX9_isTold_42 hl (k := 5) rfl rfl (by decide) rfl (fun ls hl => ?_)
          refine lv_goto (tgt := 6) hx hb dX9_isTold_45 (by decide) ?_
          exact ih (0 : Int32) (x5 + (1 : Int32)) H locs hP hD hS ls (lv_sub hl [2, 3, 4, 5, 1, 0] rfl) hw
        · replace hw := hw.2 c_4
          refine lv_iconst (v := (1 : Int32)) hx hb dX9_isTold_35 (by decide) ?_
          refine lv_goto (tgt := 40) hx hb dX9_isTold_36 (by decide) ?_
          refine lv_istore (lv' := [(4, .int (1 : Int32)), (0, .ref h), (1, .int p1), (2, .int p2), (3, .int p3), (5, .int x5)]) hx hb dX9_isTold_40 hl (by decide) rfl (fun ls hl => ?_)
          refine lv_iinc (v := (x5 + (1 : Int32))) (lv' := [(5, .int (x5 + (1 : Int32))), (4, .int (1 : Int32)), (0, .ref h), (1, .int p1), (2, .int p2), (3, .int p3)]) hx hb dX9_isTold_42 hl (k := 5) rfl rfl (by decide) rfl (fun ls hl => ?_)
          refine lv_goto (tgt := 6) hx hb dX9_isTold_45 (by decide) ?_
          exact ih (1 : Int32) (x5 + (1 : Int32)) H locs hP hD hS ls (lv_sub hl [2, 3, 4, 5, 1, 0] rfl) hw
def wp_X9_isTold (draft : Nat → Int32) (p1 : Int32) (p2 : Int32) (p3 : Int32) (Q : Int32 → Prop) : Prop :=
  (∃ j_ : Nat, wp_X9_isTold_6 draft p1 p2 p3 Q  j_ (0 : Int32) (0 : Int32))
set_option maxHeartbeats 4000000 in
theorem mt_X9_isTold (l : Launch) (G : GT) (h h_s h_images h_tape h_draft h_items h_moved h_sizes h_lanes h_less h_aside h_order : Nat) (sz : Nat) (kept : Int32) (typed : Int32) (atv : Int32) (draft : Nat → Int32) (p1 : Int32) (p2 : Int32) (p3 : Int32) (Q : Int32 → Prop) (hw : wp_X9_isTold draft p1 p2 p3 Q) : Met l yX9_isTold (ws_ yX9_isTold cX9_isTold 6 (some .boolean)) ({ frames := 0, cells := 0, slots := 0, locals := 0 } : Room) (va_Pc [.ref h, .int p1, .int p2, .int p3] (fun U => U.heap.size = sz ∧ va_P G.1 gCl [oc h 9 [.ref h_s, .ref h_images, .int kept, .ref h_tape, .int typed, .ref h_draft, .int atv, .ref h_items, .ref h_moved, .ref h_sizes, .ref h_lanes, .ref h_less, .ref h_aside, .ref h_order], ai G h_draft 40 draft] U.heap ∧ gK G U ∧ va_D (fun _ => True) [oc h 9 [.ref h_s, .ref h_images, .int kept, .ref h_tape, .int typed, .ref h_draft, .int atv, .ref h_items, .ref h_moved, .ref h_sizes, .ref h_lanes, .ref h_less, .ref h_aside, .ref h_order], ai G h_draft 40 draft])) ((fun A => (va_Qi (fun (r : Int32) (u : Unit) => Q r ) (fun u t => va_P G.1 gCl [oc h 9 [.ref h_s, .ref h_images, .int kept, .ref h_tape, .int typed, .ref h_draft, .int atv, .ref h_items, .ref h_moved, .ref h_sizes, .ref h_lanes, .ref h_less, .ref h_aside, .ref h_order], ai G h_draft 40 draft] t.heap ∧ va_D A [oc h 9 [.ref h_s, .ref h_images, .int kept, .ref h_tape, .int typed, .ref h_draft, .int atv, .ref h_items, .ref h_moved, .ref h_sizes, .ref h_lanes, .ref h_less, .ref h_aside, .ref h_order], ai G h_draft 40 draft]) A)) (va_A [oc h 9 [.ref h_s, .ref h_images, .int kept, .ref h_tape, .int typed, .ref h_draft, .int atv, .ref h_items, .ref h_moved, .ref h_sizes, .ref h_lanes, .ref h_less, .ref h_aside, .ref h_order], ai G h_draft 40 draft] sz)) 0 0 (va_A [oc h 9 [.ref h_s, .ref h_images, .int kept, .ref h_tape, .int typed, .ref h_draft, .int atv, .ref h_items, .ref h_moved, .ref h_sizes, .ref h_lanes, .ref h_less, .ref h_aside, .ref h_order], ai G h_draft 40 draft] sz) := by
  refine Met.ofW (cc := cX9_isTold) (maxL := 6) (ret := (some .boolean)) (by decide) rfl ?_
  intro p e s m args below meth c s₁ B hml hv
  obtain ⟨rfl, hsz, hP, hK, hD0⟩ := hv
  have hx := B.exec
  have hb := B.bytes
  have hr := B.returns
  have hts := atoms_spec (ws := (ws_ yX9_isTold cX9_isTold 6 (some .boolean))) B.pre
  have hts : ∀ w ∈ lw_all, w.before _ s = true := fun w h => hts w (List.mem_cons_of_mem _ h)
  have hown : s.vm.findClass RX9 = some m.cls := findClass_of_methodNamed B.named
  have hlocks := B.notSynchronized
  subst hsz
  have hD := hD0.self (sz := s.heap.size)
  generalize hAe : va_A [oc h 9 [.ref h_s, .ref h_images, .int kept, .ref h_tape, .int typed, .ref h_draft, .int atv, .ref h_items, .ref h_moved, .ref h_sizes, .ref h_lanes, .ref h_less, .ref h_aside, .ref h_order], ai G h_draft 40 draft] s.heap.size = A at hD ⊢
  have hA : ∀ q : Nat, s.heap.size ≤ q → A q := fun q h => by rw [← hAe]; exact Or.inr h
  have hS : va_S A s.heap s.heap [] := va_S.rf
  have C : Cx p s m meth c cX9_isTold 6 (some .boolean) RX9 ([.ref h, .int p1, .int p2, .int p3] : List Value).toArray G A := ⟨hx, hb, hr, hlocks, hml, hown, hts, hK, hA⟩
  have hl := lv_entry ([.ref h, .int p1, .int p2, .int p3]) (n := 6) (Nat.le_of_ble_eq_true rfl)
  rw [lg_entry_eq]
  generalize (lg_sl ([.ref h, .int p1, .int p2, .int p3]) ++ List.replicate (6 - (lg_sl ([.ref h, .int p1, .int p2, .int p3])).length) Slot.unset).toArray = ls at hl ⊢
  have hl : lv_has ls 6 [(0, .ref h), (1, .int p1), (2, .int p2), (3, .int p3)] := hl
  unfold wp_X9_isTold at hw
  refine lv_iconst (v := (0 : Int32)) hx hb dX9_isTold_0 (by decide) ?_
  refine lv_istore (lv' := [(4, .int (0 : Int32)), (0, .ref h), (1, .int p1), (2, .int p2), (3, .int p3)]) hx hb dX9_isTold_1 hl (by decide) rfl (fun ls hl => ?_)
  refine lv_iconst (v := (0 : Int32)) hx hb dX9_isTold_3 (by decide) ?_
  refine lv_istore (lv' := [(5, .int (0 : Int32)), (4, .int (0 : Int32)), (0, .ref h), (1, .int p1), (2, .int p2), (3, .int p3)]) hx hb dX9_isTold_4 hl (by decide) rfl (fun ls hl => ?_)
  obtain ⟨j_, hw⟩ := hw
  exact wk_X9_isTold_6 h h_s h_images h_tape h_draft h_items h_moved h_sizes h_lanes h_less h_aside h_order kept typed atv draft p1 p2 p3  Q  C  j_ (0 : Int32) (0 : Int32) s.heap [] hP hD hS ls (lv_sub hl [2, 3, 4, 5, 1, 0] rfl) hw
/-! BattleBenchModel.readsMan(I)Z -/
def wp_X9_readsMan_238 (typed : Int32) (tape : Nat → Int32) (p1 : Int32) (Q : Int32 → (Int32 × (Nat → Int32)) → Prop)  : Nat → Int32 → (Nat → Int32) → Int32 → Prop
  | 0, _, _, _ => False
  | n + 1, atv, draft, x6 =>
    ((((3 : Int32) ≤ x6) → Q (1 : Int32) (atv, draft)) ∧ (¬ ((3 : Int32) ≤ x6) → wp_X9_skips typed atv tape  (fun r_2 u_3 => wp_X9_isDigit  r_2 (fun r_4 => (((r_4 = 0) → Q (0 : Int32) (u_3, draft)) ∧ (¬ (r_4 = 0) → wp_X9_isTold draft p1 x6 (r_2 - (48 : Int32)) (fun r_6 => (((r_6 = 0) → (∀ v_8 : Int32, v_8 = (r_2 - (48 : Int32)) → (vp_in (((22 : Int32) + ((3 : Int32) * p1)) + x6) 40 ∧ ∀ f_10 : Nat → Int32, f_10 = upd draft ((((22 : Int32) + ((3 : Int32) * p1)) + x6)).toNatClampNeg v_8 → (∀ v_11 : Int32, v_11 = (u_3 + (1 : Int32)) → wp_X9_readsMan_238 typed tape p1 Q  n v_11 f_10 (x6 + (1 : Int32)))))) ∧ (¬ (r_6 = 0) → Q (0 : Int32) (u_3, draft))))))))))
set_option maxHeartbeats 4000000 in
theorem wk_X9_readsMan_238 {p : Program} {l : Launch} {e : Env} {s : State} {m : MethodId} {below : List Frame} {meth : Method} {c : Code} {args : Array Value} {G : GT} {A : Nat → Prop} (h h_s h_images h_tape h_draft h_items h_moved h_sizes h_lanes h_less h_aside h_order : Nat) (kept : Int32) (typed : Int32) (tape : Nat → Int32) (p1 : Int32) (Q : Int32 → (Int32 × (Nat → Int32)) → Prop)  (C : Cx p s m meth c cX9_readsMan 8 (some .boolean) RX9 args G A)  :
    ∀ (n : Nat), ∀  (atv : Int32) (draft : Nat → Int32) (x6 : Int32) (H : Heap) (locs : List Loc), va_P G.1 gCl [oc h 9 [.ref h_s, .ref h_images, .int kept, .ref h_tape, .int typed, .ref h_draft, .int atv, .ref h_items, .ref h_moved, .ref h_sizes, .ref h_lanes, .ref h_less, .ref h_aside, .ref h_order], ai G h_tape 70 tape, ai G h_draft 40 draft] H → va_D A [oc h 9 [.ref h_s, .ref h_images, .int kept, .ref h_tape, .int typed, .ref h_draft, .int atv, .ref h_items, .ref h_moved, .ref h_sizes, .ref h_lanes, .ref h_less, .ref h_aside, .ref h_order], ai G h_tape 70 tape, ai G h_draft 40 draft] → va_S A s.heap H locs → ∀ (ls : Array Slot), lv_has ls 8 [(0, .ref h), (1, .int p1), (6, .int x6)] → wp_X9_readsMan_238 typed tape p1 Q  n atv draft x6 → W p l e ({ frames := 2, cells := 0, slots := 0, locals := 42 } : Room) s m args below meth c H locs 0 0 (MQ below (va_Qi (fun (r : Int32) (u : Int32 × (Nat → Int32)) => Q r u) (fun u t => va_P G.1 gCl [oc h 9 [.ref h_s, .ref h_images, .int kept, .ref h_tape, .int typed, .ref h_draft, .int u.1, .ref h_items, .ref h_moved, .ref h_sizes, .ref h_lanes, .ref h_less, .ref h_aside, .ref h_order], ai G h_tape 70 tape, ai G h_draft 40 u.2] t.heap ∧ va_D A [oc h 9 [.ref h_s, .ref h_images, .int kept, .ref h_tape, .int typed, .ref h_draft, .int u.1, .ref h_items, .ref h_moved, .ref h_sizes, .ref h_lanes, .ref h_less, .ref h_aside, .ref h_order], ai G h_tape 70 tape, ai G h_draft 40 u.2]) A) args s 0 0 A) (F0 m 238 ls []) := by
  have C9 := C
  obtain ⟨hx, hb, hr, hlocks, hml, hown, hts, hK, hA⟩ := C9
  intro n
  induction n with
  | zero => intro atv draft x6 H locs hP hD hS ls hl hw; exact False.elim hw
  | succ n ih =>
    intro atv draft x6 H locs hP hD hS ls hl hw
    unfold wp_X9_readsMan_238 at hw
    refine lv_iload hx hb dX9_readsMan_238 (lv_at hl 2 rfl) ?_
    refine lv_iconst (v := (3 : Int32)) hx hb dX9_readsMan_240 (by decide) ?_
    refine lv_icmp_ge (tgt := 310) hx hb dX9_readsMan_241 (by decide) (fun c_1 => ?_) (fun c_1 => ?_)
    · replace hw := hw.1 c_1
      refine lv_iconst (v := (1 : Int32)) hx hb dX9_readsMan_310 (by decide) ?_
      have hP9 := hP
      have hD9 := hD
      exact W.zret (v := (1 : Int32)) hx hb hr rfl (fun t ht hW => ⟨⟨(1 : Int32), (atv, draft), rfl, hw, by rw [ht]; exact hP9, hD9⟩, hS.F ht⟩) hS.2.2 dX9_readsMan_311
    · replace hw := hw.2 c_1
      refine lv_aload_n hx hb dX9_readsMan_244 rfl (lv_at hl 0 rfl) ?_
      have hPc := hP.sub (ws' := [oc h 9 [.ref h_s, .ref h_images, .int kept, .ref h_tape, .int typed, .ref h_draft, .int atv, .ref h_items, .ref h_moved, .ref h_sizes, .ref h_lanes, .ref h_less, .ref h_aside, .ref h_order], ai G h_tape 70 tape]) [0, 1] rfl
      have hDc := hD.sub (ws' := [oc h 9 [.ref h_s, .ref h_images, .int kept, .ref h_tape, .int typed, .ref h_draft, .int atv, .ref h_items, .ref h_moved, .ref h_sizes, .ref h_lanes, .ref h_less, .ref h_aside, .ref h_order], ai G h_tape 70 tape]) [0, 1] (by decide) rfl
      have hFc := va_free (wc := [oc h 9 [.ref h_s, .ref h_images, .int kept, .ref h_tape, .int typed, .ref h_draft, .int atv, .ref h_items, .ref h_moved, .ref h_sizes, .ref h_lanes, .ref h_less, .ref h_aside, .ref h_order], ai G h_tape 70 tape]) hD hS hA [0, 1] rfl
      refine va_calli (va_runV (As := []) (rest := []) ⟨hx, hb, hml, hown, hts⟩ (mt_X9_skips l G h h_s h_images h_tape h_draft h_items h_moved h_sizes h_lanes h_less h_aside h_order H.size kept typed atv tape  _ hw) (cwV 0 hts (lw_V q930 q932 qs36 q65 q933) rfl rfl rfl (by decide +kernel) ⟨Nat.le_of_ble_eq_true rfl, Nat.le_of_ble_eq_true rfl⟩) ⟨fun a U g mk q => by obtain ⟨q0, q1, qP, qK, qD⟩ := q; exact ⟨q0, q1, qP, qK.call, qD⟩, va_recv hK.1 hP (ci := 9) (q0 := 0) rfl rfl, fun U hU hW => ⟨rfl, by rw [hU], by rw [hU]; exact hPc, hK.warm hW, hDc.weaken (fun _ _ _ _ => trivial)⟩⟩ rfl rfl hl.1 rfl (lv_room (Nat.le_of_ble_eq_true rfl)) dX9_readsMan_245 ⟨Nat.le_of_ble_eq_true rfl, Nat.le_of_ble_eq_true rfl⟩) hS (fun q _ h => hFc q h) hFc (fun r_2 u_3 t H1 locs ht hvm hw hB hz1 hk1 hS => ?_)
      obtain ⟨hP1, hD1⟩ := hB
      rw [ht] at hP1
      obtain ⟨hP, hD⟩ := va_join (wr := [ai G h_draft 40 draft]) (w1 := [oc h 9 [.ref h_s, .ref h_images, .int kept, .ref h_tape, .int typed, .ref h_draft, .int u_3, .ref h_items, .ref h_moved, .ref h_sizes, .ref h_lanes, .ref h_less, .ref h_aside, .ref h_order], ai G h_tape 70 tape]) hP hD [0, 1] [2] rfl rfl (by decide) (by decide) hk1 hFc hP1 hD1
      clear hPc hDc hFc hP1 hD1 hz1 hk1 hvm
      generalize H1 = H at hP hS ⊢
      have hP : va_P G.1 gCl [ai G h_draft 40 draft, oc h 9 [.ref h_s, .ref h_images, .int kept, .ref h_tape, .int typed, .ref h_draft, .int u_3, .ref h_items, .ref h_moved, .ref h_sizes, .ref h_lanes, .ref h_less, .ref h_aside, .ref h_order], ai G h_tape 70 tape] H := hP
      have hD : va_D A [ai G h_draft 40 draft, oc h 9 [.ref h_s, .ref h_images, .int kept, .ref h_tape, .int typed, .ref h_draft, .int u_3, .ref h_items, .ref h_moved, .ref h_sizes, .ref h_lanes, .ref h_less, .ref h_aside, .ref h_order], ai G h_tape 70 tape] := hD
      refine lv_istore (lv' := [(7, .int r_2), (0, .ref h), (1, .int p1), (6, .int x6)]) hx hb dX9_readsMan_248 hl (by decide) rfl (fun ls hl => ?_)
      refine lv_iload hx hb dX9_readsMan_250 (lv_at hl 0 rfl) ?_
      have hPc := hP.sub (ws' := []) [] rfl
      have hDc := hD.sub (ws' := []) [] (by decide) rfl
      have hFc := va_free (wc := []) hD hS hA [] rfl
      refine va_calli (va_runS (As := [.int r_2]) (rest := []) ⟨hx, hb, hml, hown, hts⟩ (mt_X9_isDigit l G  H.size  r_2 _ hw) (va_cwS 1 hts (lw_S q941 q942 q65 q943) rfl rfl rfl (by decide +kernel) ⟨Nat.le_of_ble_eq_true rfl, Nat.le_of_ble_eq_true rfl⟩) ⟨fun a U g mk q => by obtain ⟨q0, q1, qP, qK, qD⟩ := q; exact ⟨q0, q1, qP, qK.call, qD⟩, fun U hU hW => ⟨rfl, by rw [hU], by rw [hU]; exact hPc, hK.warm hW, hDc.weaken (fun _ _ _ _ => trivial)⟩⟩ rfl rfl hl.1 rfl (lv_room (Nat.le_of_ble_eq_true rfl)) dX9_readsMan_252 ⟨Nat.le_of_ble_eq_true rfl, Nat.le_of_ble_eq_true rfl⟩) hS (fun q _ h => hFc q h) hFc (fun r_4 _ t H1 locs ht hvm hw hB hz1 hk1 hS => ?_)
      obtain ⟨hP1, hD1⟩ := hB
      rw [ht] at hP1
      obtain ⟨hP, hD⟩ := va_join (wr := [ai G h_draft 40 draft, oc h 9 [.ref h_s, .ref h_images, .int kept, .ref h_tape, .int typed, .ref h_draft, .int u_3, .ref h_items, .ref h_moved, .ref h_sizes, .ref h_lanes, .ref h_less, .ref h_aside, .ref h_order], ai G h_tape 70 tape]) (w1 := []) hP hD [] [0, 1, 2] rfl rfl (by decide) (by decide) hk1 hFc hP1 hD1
      clear hPc hDc hFc hP1 hD1 hz1 hk1 hvm
      generalize H1 = H at hP hS ⊢
      have hP : va_P G.1 gCl [ai G h_draft 40 draft, oc h 9 [.ref h_s, .ref h_images, .int kept, .ref h_tape, .int typed, .ref h_draft, .int u_3, .ref h_items, .ref h_moved, .ref h_sizes, .ref h_lanes, .ref h_less, .ref h_aside, .ref h_order], ai G h_tape 70 tape] H := hP
      have hD : va_D A [ai G h_draft 40 draft, oc h 9 [.ref h_s, .ref h_images, .int kept, .ref h_tape, .int typed, .ref h_draft, .int u_3, .ref h_items, .ref h_moved, .ref h_sizes, .ref h_lanes, .ref h_less, .ref h_aside, .ref h_order], ai G h_tape 70 tape] := hD
      refine lv_if_eq (tgt := 273) hx hb dX9_readsMan_255 (by decide) (fun c_5 => ?_) (fun c_5 => ?_)
      · replace hw := hw.1 c_5
        refine lv_iconst (v := (0 : Int32)) hx hb dX9_readsMan_273 (by decide) ?_
        have hP9 := hP.sub (ws' := [oc h 9 [.ref h_s, .ref h_images, .int kept, .ref h_tape, .int typed, .ref h_draft, .int u_3, .ref h_items, .ref h_moved, .ref h_sizes, .ref h_lanes, .ref h_less, .ref h_aside, .ref h_order], ai G h_tape 70 tape, ai G h_draft 40 draft]) [1, 2, 0] rfl
        have hD9 := hD.sub (ws' := [oc h 9 [.ref h_s, .ref h_images, .int kept, .ref h_tape, .int typed, .ref h_draft, .int u_3, .ref h_items, .ref h_moved, .ref h_sizes, .ref h_lanes, .ref h_less, .ref h_aside, .ref h_order], ai G h_tape 70 tape, ai G h_draft 40 draft]) [1, 2, 0] (by decide) rfl
        exact W.zret (v := (0 : Int32)) hx hb hr rfl (fun t ht hW => ⟨⟨(0 : Int32), (u_3, draft), rfl, hw, by rw [ht]; exact hP9, hD9⟩, hS.F ht⟩) hS.2.2 dX9_readsMan_274
      · replace hw := hw.2 c_5
        refine lv_aload_n hx hb dX9_readsMan_258 rfl (lv_at hl 1 rfl) ?_
        refine lv_iload_n hx hb dX9_readsMan_259 rfl (lv_at hl 2 rfl) ?_
        refine lv_iload hx hb dX9_readsMan_260 (lv_at hl 3 rfl) ?_
        refine lv_iload hx hb dX9_readsMan_262 (lv_at hl 0 rfl) ?_
        refine lv_bipush (v := (48 : Int32)) hx hb dX9_readsMan_264 (by decide) ?_
        refine lv_isub hx hb dX9_readsMan_266 ?_
        have hPc := hP.sub (ws' := [oc h 9 [.ref h_s, .ref h_images, .int kept, .ref h_tape, .int typed, .ref h_draft, .int u_3, .ref h_items, .ref h_moved, .ref h_sizes, .ref h_lanes, .ref h_less, .ref h_aside, .ref h_order], ai G h_draft 40 draft]) [1, 0] rfl
        have hDc := hD.sub (ws' := [oc h 9 [.ref h_s, .ref h_images, .int kept, .ref h_tape, .int typed, .ref h_draft, .int u_3, .ref h_items, .ref h_moved, .ref h_sizes, .ref h_lanes, .ref h_less, .ref h_aside, .ref h_order], ai G h_draft 40 draft]) [1, 0] (by decide) rfl
        have hFc := va_free (wc := [oc h 9 [.ref h_s, .ref h_images, .int kept, .ref h_tape, .int typed, .ref h_draft, .int u_3, .ref h_items, .ref h_moved, .ref h_sizes, .ref h_lanes, .ref h_less, .ref h_aside, .ref h_order], ai G h_draft 40 draft]) hD hS hA [1, 0] rfl
        refine va_calli (va_runV (As := [.int p1, .int x6, .int (r_2 - (48 : Int32))]) (rest := []) ⟨hx, hb, hml, hown, hts⟩ (mt_X9_isTold l G h h_s h_images h_tape h_draft h_items h_moved h_sizes h_lanes h_less h_aside h_order H.size kept typed u_3 draft p1 x6 (r_2 - (48 : Int32)) _ hw) (cwV 3 hts (lw_V q944 q946 qs38 q65 q947) rfl rfl rfl (by decide +kernel) ⟨Nat.le_of_ble_eq_true rfl, Nat.le_of_ble_eq_true rfl⟩) ⟨fun a U g mk q => by obtain ⟨q0, q1, qP, qK, qD⟩ := q; exact ⟨q0, q1, qP, qK.call, qD⟩, va_recv hK.1 hP (ci := 9) (q0 := 1) rfl rfl, fun U hU hW => ⟨rfl, by rw [hU], by rw [hU]; exact hPc, hK.warm hW, hDc.weaken (fun _ _ _ _ => trivial)⟩⟩ rfl rfl hl.1 rfl (lv_room (Nat.le_of_ble_eq_true rfl)) dX9_readsMan_267 ⟨Nat.le_of_ble_eq_true rfl, Nat.le_of_ble_eq_true rfl⟩) hS (fun q _ h => hFc q h) hFc (fun r_6 _ t H1 locs ht hvm hw hB hz1 hk1 hS => ?_)
        obtain ⟨hP1, hD1⟩ := hB
        rw [ht] at hP1
        obtain ⟨hP, hD⟩ := va_join (wr := [ai G h_tape 70 tape]) (w1 := [oc h 9 [.ref h_s, .ref h_images, .int kept, .ref h_tape, .int typed, .ref h_draft, .int u_3, .ref h_items, .ref h_moved, .ref h_sizes, .ref h_lanes, .ref h_less, .ref h_aside, .ref h_order], ai G h_draft 40 draft]) hP hD [1, 0] [2] rfl rfl (by decide) (by decide) hk1 hFc hP1 hD1
        clear hPc hDc hFc hP1 hD1 hz1 hk1 hvm
        generalize H1 = H at hP hS ⊢
        have hP : va_P G.1 gCl [ai G h_tape 70 tape, oc h 9 [.ref h_s, .ref h_images, .int kept, .ref h_tape, .int typed, .ref h_draft, .int u_3, .ref h_items, .ref h_moved, .ref h_sizes, .ref h_lanes, .ref h_less, .ref h_aside, .ref h_order], ai G h_draft 40 draft] H := hP
        have hD : va_D A [ai G h_tape 70 tape, oc h 9 [.ref h_s, .ref h_images, .int kept, .ref h_tape, .int typed, .ref h_draft, .int u_3, .ref h_items, .ref h_moved, .ref h_sizes, .ref h_lanes, .ref h_less, .ref h_aside, .ref h_order], ai G h_draft 40 draft] := hD
        refine lv_if_eq (tgt := 275) hx hb dX9_readsMan_270 (by decide) (fun c_7 => ?_) (fun c_7 => ?_)
        · replace hw := hw.1 c_7
          refine lv_aload_n hx hb dX9_readsMan_275 rfl (lv_at hl 1 rfl) ?_
          refine va_get (D := G.1) (ci := 9) (v := .ref h_draft) (C := RX9) (T := TX9) (N := 14) hx hb hts in_X9 hown hK.1 hP 1 rfl rfl 5 (by decide) (hts _ q822) (fun _ h9 => h9) rfl dX9_readsMan_276 ?_
          refine lv_bipush (v := (22 : Int32)) hx hb dX9_readsMan_279 (by decide) ?_
          refine lv_iconst (v := (3 : Int32)) hx hb dX9_readsMan_281 (by decide) ?_
          refine lv_iload_n hx hb dX9_readsMan_282 rfl (lv_at hl 2 rfl) ?_
          refine lv_imul hx hb dX9_readsMan_283 ?_
          refine lv_iadd hx hb dX9_readsMan_284 ?_
          refine lv_iload hx hb dX9_readsMan_285 (lv_at hl 3 rfl) ?_
          refine lv_iadd hx hb dX9_readsMan_287 ?_
          refine lv_iload hx hb dX9_readsMan_288 (lv_at hl 0 rfl) ?_
          refine lv_bipush (v := (48 : Int32)) hx hb dX9_readsMan_290 (by decide) ?_
          refine lv_isub hx hb dX9_readsMan_292 ?_
          refine lv_topi (fun v_8 ev_8 => ?_)
          replace hw := hw v_8 ev_8
          obtain ⟨i_9, hw⟩ := hw
          refine z_iast hx hb hK.1 hP hD hS 2 0 rfl rfl i_9 dX9_readsMan_293 (k := ((((22 : Int32) + ((3 : Int32) * p1)) + x6)).toNatClampNeg) rfl (fun f_10 ef_10 H locs hP hD hS => ?_)
          replace hw := hw f_10 ef_10
          have hP : va_P G.1 gCl [ai G h_tape 70 tape, oc h 9 [.ref h_s, .ref h_images, .int kept, .ref h_tape, .int typed, .ref h_draft, .int u_3, .ref h_items, .ref h_moved, .ref h_sizes, .ref h_lanes, .ref h_less, .ref h_aside, .ref h_order], ai G h_draft 40 f_10] H := hP
          have hD : va_D A [ai G h_tape 70 tape, oc h 9 [.ref h_s, .ref h_images, .int kept, .ref h_tape, .int typed, .ref h_draft, .int u_3, .ref h_items, .ref h_moved, .ref h_sizes, .ref h_lanes, .ref h_less, .ref h_aside, .ref h_order], ai G h_draft 40 f_10] := hD
          refine lv_aload_n hx hb dX9_readsMan_294 rfl (lv_at hl 1 rfl) ?_
          refine lv_dup hx hb dX9_readsMan_295 rfl ?_
          refine va_get (D := G.1) (ci := 9) (v := .int u_3) (C := RX9) (T := TX9) (N := 14) hx hb hts in_X9 hown hK.1 hP 1 rfl rfl 6 (by decide) (hts _ q823) (fun _ h9 => h9) rfl dX9_readsMan_296 ?_
          refine lv_iconst (v := (1 : Int32)) hx hb dX9_readsMan_299 (by decide) ?_
          refine lv_iadd hx hb dX9_readsMan_300 ?_
          refine lv_topi (fun v_11 ev_11 => ?_)
          replace hw := hw v_11 ev_11
          refine va_put (D := G.1) (ci := 9) (v := .int v_11) (ty := .int) (C := RX9) (T := TX9) (N := 14) hx hb hts in_X9 tyX9 tyX9_ok nmX9 hown hK.1 hP hD hS 1 rfl rfl 6 (by decide) (hts _ q823) (fun _ h9 => h9) rfl (by decide +kernel) rfl rfl (Nat.le_of_ble_eq_true rfl) dX9_readsMan_301 (fun H locs hP hD hS => ?_)
          have hP : va_P G.1 gCl [ai G h_tape 70 tape, oc h 9 [.ref h_s, .ref h_images, .int kept, .ref h_tape, .int typed, .ref h_draft, .int v_11, .ref h_items, .ref h_moved, .ref h_sizes, .ref h_lanes, .ref h_less, .ref h_aside, .ref h_order], ai G h_draft 40 f_10] H := hP
          have hD : va_D A [ai G h_tape 70 tape, oc h 9 [.ref h_s, .ref h_images, .int kept, .ref h_tape, .int typed, .ref h_draft, .int v_11, .ref h_items, .ref h_moved, .ref h_sizes, .ref h_lanes, .ref h_less, .ref h_aside, .ref h_order], ai G h_draft 40 f_10] := hD
          refine lv_iinc (v := (x6 + (1 : Int32))) (lv' := [(6, .int (x6 + (1 : Int32))), (7, .int r_2), (0, .ref h), (1, .int p1)]) hx hb dX9_readsMan_304 hl (k := 3) rfl rfl (by decide) rfl (fun ls hl => ?_)
          refine lv_goto (tgt := 238) hx hb dX9_readsMan_307 (by decide) ?_
          exact ih v_11 f_10 (x6 + (1 : Int32)) H locs (hP.sub [1, 0, 2] rfl) (hD.sub [1, 0, 2] (by decide) rfl) hS ls (lv_sub hl [2, 3, 0] rfl) hw
        · replace hw := hw.2 c_7
          refine lv_iconst (v := (0 : Int32)) hx hb dX9_readsMan_273 (by decide) ?_
          have hP9 := hP.sub (ws' := [oc h 9 [.ref h_s, .ref h_images, .int kept, .ref h_tape, .int typed, .ref h_draft, .int u_3, .ref h_items, .ref h_moved, .ref h_sizes, .ref h_lanes, .ref h_less, .ref h_aside, .ref h_order], ai G h_tape 70 tape, ai G h_draft 40 draft]) [1, 0, 2] rfl
          have hD9 := hD.sub (ws' := [oc h 9 [.ref h_s, .ref h_images, .int kept, .ref h_tape, .int typed, .ref h_draft, .int u_3, .ref h_items, .ref h_moved, .ref h_sizes, .ref h_lanes, .ref h_less, .ref h_aside, .ref h_order], ai G h_tape 70 tape, ai G h_draft 40 draft]) [1, 0, 2] (by decide) rfl
          exact W.zret (v := (0 : Int32)) hx hb hr rfl (fun t ht hW => ⟨⟨(0 : Int32), (u_3, draft), rfl, hw, by rw [ht]; exact hP9, hD9⟩, hS.F ht⟩) hS.2.2 dX9_readsMan_274
def wp_X9_readsMan_178 (typed : Int32) (tape : Nat → Int32) (p1 : Int32) (Q : Int32 → (Int32 × (Nat → Int32)) → Prop)  : Nat → Int32 → (Nat → Int32) → Int32 → Int32 → Prop
  | 0, _, _, _, _ => False
  | n + 1, atv, draft, x3, x6 =>
    ((((3 : Int32) ≤ x6) → Q (1 : Int32) (atv, draft)) ∧ (¬ ((3 : Int32) ≤ x6) → wp_X9_isTold draft p1 x6 p1 (fun r_2 => (((r_2 = 0) → (vp_in (((22 : Int32) + ((3 : Int32) * p1)) + x6) 40 ∧ ∀ f_5 : Nat → Int32, f_5 = upd draft ((((22 : Int32) + ((3 : Int32) * p1)) + x6)).toNatClampNeg p1 → wp_X9_readsMan_178 typed tape p1 Q  n atv f_5 x3 (x6 + (1 : Int32)))) ∧ (¬ (r_2 = 0) → Q (0 : Int32) (x3, draft))))))
set_option maxHeartbeats 4000000 in
theorem wk_X9_readsMan_178 {p : Program} {l : Launch} {e : Env} {s : State} {m : MethodId} {below : List Frame} {meth : Method} {c : Code} {args : Array Value} {G : GT} {A : Nat → Prop} (h h_s h_images h_tape h_draft h_items h_moved h_sizes h_lanes h_less h_aside h_order : Nat) (kept : Int32) (typed : Int32) (tape : Nat → Int32) (p1 : Int32) (Q : Int32 → (Int32 × (Nat → Int32)) → Prop)  (C : Cx p s m meth c cX9_readsMan 8 (some .boolean) RX9 args G A)  :
    ∀ (n : Nat), ∀  (atv : Int32) (draft : Nat → Int32) (x3 : Int32) (x6 : Int32) (H : Heap) (locs : List Loc), va_P G.1 gCl [oc h 9 [.ref h_s, .ref h_images, .int kept, .ref h_tape, .int typed, .ref h_draft, .int atv, .ref h_items, .ref h_moved, .ref h_sizes, .ref h_lanes, .ref h_less, .ref h_aside, .ref h_order], ai G h_tape 70 tape, ai G h_draft 40 draft] H → va_D A [oc h 9 [.ref h_s, .ref h_images, .int kept, .ref h_tape, .int typed, .ref h_draft, .int atv, .ref h_items, .ref h_moved, .ref h_sizes, .ref h_lanes, .ref h_less, .ref h_aside, .ref h_order], ai G h_tape 70 tape, ai G h_draft 40 draft] → va_S A s.heap H locs → ∀ (ls : Array Slot), lv_has ls 8 [(0, .ref h), (1, .int p1), (3, .int x3), (6, .int x6)] → wp_X9_readsMan_178 typed tape p1 Q  n atv draft x3 x6 → W p l e ({ frames := 2, cells := 0, slots := 0, locals := 42 } : Room) s m args below meth c H locs 0 0 (MQ below (va_Qi (fun (r : Int32) (u : Int32 × (Nat → Int32)) => Q r u) (fun u t => va_P G.1 gCl [oc h 9 [.ref h_s, .ref h_images, .int kept, .ref h_tape, .int typed, .ref h_draft, .int u.1, .ref h_items, .ref h_moved, .ref h_sizes, .ref h_lanes, .ref h_less, .ref h_aside, .ref h_order], ai G h_tape 70 tape, ai G h_draft 40 u.2] t.heap ∧ va_D A [oc h 9 [.ref h_s, .ref h_images, .int kept, .ref h_tape, .int typed, .ref h_draft, .int u.1, .ref h_items, .ref h_moved, .ref h_sizes, .ref h_lanes, .ref h_less, .ref h_aside, .ref h_order], ai G h_tape 70 tape, ai G h_draft 40 u.2]) A) args s 0 0 A) (F0 m 178 ls []) := by
  have C9 := C
  obtain ⟨hx, hb, hr, hlocks, hml, hown, hts, hK, hA⟩ := C9
  intro n
  induction n with
  | zero => intro atv draft x3 x6 H locs hP hD hS ls hl hw; exact False.elim hw
  | succ n ih =>
    intro atv draft x3 x6 H locs hP hD hS ls hl hw
    unfold wp_X9_readsMan_178 at hw
    refine lv_iload hx hb dX9_readsMan_178 (lv_at hl 3 rfl) ?_
    refine lv_iconst (v := (3 : Int32)) hx hb dX9_readsMan_180 (by decide) ?_
    refine lv_icmp_ge (tgt := 223) hx hb dX9_readsMan_181 (by decide) (fun c_1 => ?_) (fun c_1 => ?_)
    · replace hw := hw.1 c_1
      refine lv_iconst (v := (1 : Int32)) hx hb dX9_readsMan_223 (by decide) ?_
      have hP9 := hP
      have hD9 := hD
      exact W.zret (v := (1 : Int32)) hx hb hr rfl (fun t ht hW => ⟨⟨(1 : Int32), (atv, draft), rfl, hw, by rw [ht]; exact hP9, hD9⟩, hS.F ht⟩) hS.2.2 dX9_readsMan_224
    · replace hw := hw.2 c_1
      refine lv_aload_n hx hb dX9_readsMan_184 rfl (lv_at hl 0 rfl) ?_
      refine lv_iload_n hx hb dX9_readsMan_185 rfl (lv_at hl 1 rfl) ?_
      refine lv_iload hx hb dX9_readsMan_186 (lv_at hl 3 rfl) ?_
      refine lv_iload_n hx hb dX9_readsMan_188 rfl (lv_at hl 1 rfl) ?_
      have hPc := hP.sub (ws' := [oc h 9 [.ref h_s, .ref h_images, .int kept, .ref h_tape, .int typed, .ref h_draft, .int atv, .ref h_items, .ref h_moved, .ref h_sizes, .ref h_lanes, .ref h_less, .ref h_aside, .ref h_order], ai G h_draft 40 draft]) [0, 2] rfl
      have hDc := hD.sub (ws' := [oc h 9 [.ref h_s, .ref h_images, .int kept, .ref h_tape, .int typed, .ref h_draft, .int atv, .ref h_items, .ref h_moved, .ref h_sizes, .ref h_lanes, .ref h_less, .ref h_aside, .ref h_order], ai G h_draft 40 draft]) [0, 2] (by decide) rfl
      have hFc := va_free (wc := [oc h 9 [.ref h_s, .ref h_images, .int kept, .ref h_tape, .int typed, .ref h_draft, .int atv, .ref h_items, .ref h_moved, .ref h_sizes, .ref h_lanes, .ref h_less, .ref h_aside, .ref h_order], ai G h_draft 40 draft]) hD hS hA [0, 2] rfl
      refine va_calli (va_runV (As := [.int p1, .int x6, .int p1]) (rest := []) ⟨hx, hb, hml, hown, hts⟩ (mt_X9_isTold l G h h_s h_images h_tape h_draft h_items h_moved h_sizes h_lanes h_less h_aside h_order H.size kept typed atv draft p1 x6 p1 _ hw) (cwV 3 hts (lw_V q944 q946 qs38 q65 q947) rfl rfl rfl (by decide +kernel) ⟨Nat.le_of_ble_eq_true rfl, Nat.le_of_ble_eq_true rfl⟩) ⟨fun a U g mk q => by obtain ⟨q0, q1, qP, qK, qD⟩ := q; exact ⟨q0, q1, qP, qK.call, qD⟩, va_recv hK.1 hP (ci := 9) (q0 := 0) rfl rfl, fun U hU hW => ⟨rfl, by rw [hU], by rw [hU]; exact hPc, hK.warm hW, hDc.weaken (fun _ _ _ _ => trivial)⟩⟩ rfl rfl hl.1 rfl (lv_room (Nat.le_of_ble_eq_true rfl)) dX9_readsMan_189 ⟨Nat.le_of_ble_eq_true rfl, Nat.le_of_ble_eq_true rfl⟩) hS (fun q _ h => hFc q h) hFc (fun r_2 _ t H1 locs ht hvm hw hB hz1 hk1 hS => ?_)
      obtain ⟨hP1, hD1⟩ := hB
      rw [ht] at hP1
      obtain ⟨hP, hD⟩ := va_join (wr := [ai G h_tape 70 tape]) (w1 := [oc h 9 [.ref h_s, .ref h_images, .int kept, .ref h_tape, .int typed, .ref h_draft, .int atv, .ref h_items, .ref h_moved, .ref h_sizes, .ref h_lanes, .ref h_less, .ref h_aside, .ref h_order], ai G h_draft 40 draft]) hP hD [0, 2] [1] rfl rfl (by decide) (by decide) hk1 hFc hP1 hD1
      clear hPc hDc hFc hP1 hD1 hz1 hk1 hvm
      generalize H1 = H at hP hS ⊢
      have hP : va_P G.1 gCl [ai G h_tape 70 tape, oc h 9 [.ref h_s, .ref h_images, .int kept, .ref h_tape, .int typed, .ref h_draft, .int atv, .ref h_items, .ref h_moved, .ref h_sizes, .ref h_lanes, .ref h_less, .ref h_aside, .ref h_order], ai G h_draft 40 draft] H := hP
      have hD : va_D A [ai G h_tape 70 tape, oc h 9 [.ref h_s, .ref h_images, .int kept, .ref h_tape, .int typed, .ref h_draft, .int atv, .ref h_items, .ref h_moved, .ref h_sizes, .ref h_lanes, .ref h_less, .ref h_aside, .ref h_order], ai G h_draft 40 draft] := hD
      refine lv_if_eq (tgt := 202) hx hb dX9_readsMan_192 (by decide) (fun c_3 => ?_) (fun c_3 => ?_)
      · replace hw := hw.1 c_3
        refine lv_aload_n hx hb dX9_readsMan_202 rfl (lv_at hl 0 rfl) ?_
        refine va_get (D := G.1) (ci := 9) (v := .ref h_draft) (C := RX9) (T := TX9) (N := 14) hx hb hts in_X9 hown hK.1 hP 1 rfl rfl 5 (by decide) (hts _ q822) (fun _ h9 => h9) rfl dX9_readsMan_203 ?_
        refine lv_bipush (v := (22 : Int32)) hx hb dX9_readsMan_206 (by decide) ?_
        refine lv_iconst (v := (3 : Int32)) hx hb dX9_readsMan_208 (by decide) ?_
        refine lv_iload_n hx hb dX9_readsMan_209 rfl (lv_at hl 1 rfl) ?_
        refine lv_imul hx hb dX9_readsMan_210 ?_
        refine lv_iadd hx hb dX9_readsMan_211 ?_
        refine lv_iload hx hb dX9_readsMan_212 (lv_at hl 3 rfl) ?_
        refine lv_iadd hx hb dX9_readsMan_214 ?_
        refine lv_iload_n hx hb dX9_readsMan_215 rfl (lv_at hl 1 rfl) ?_
        obtain ⟨i_4, hw⟩ := hw
        refine z_iast hx hb hK.1 hP hD hS 2 0 rfl rfl i_4 dX9_readsMan_216 (k := ((((22 : Int32) + ((3 : Int32) * p1)) + x6)).toNatClampNeg) rfl (fun f_5 ef_5 H locs hP hD hS => ?_)
        replace hw := hw f_5 ef_5
        have hP : va_P G.1 gCl [ai G h_tape 70 tape, oc h 9 [.ref h_s, .ref h_images, .int kept, .ref h_tape, .int typed, .ref h_draft, .int atv, .ref h_items, .ref h_moved, .ref h_sizes, .ref h_lanes, .ref h_less, .ref h_aside, .ref h_order], ai G h_draft 40 f_5] H := hP
        have hD : va_D A [ai G h_tape 70 tape, oc h 9 [.ref h_s, .ref h_images, .int kept, .ref h_tape, .int typed, .ref h_draft, .int atv, .ref h_items, .ref h_moved, .ref h_sizes, .ref h_lanes, .ref h_less, .ref h_aside, .ref h_order], ai G h_draft 40 f_5] := hD
        refine lv_iinc (v := (x6 + (1 : Int32))) (lv' := [(6, .int (x6 + (1 : Int32))), (0, .ref h), (1, .int p1), (3, .int x3)]) hx hb dX9_readsMan_217 hl (k := 3) rfl rfl (by decide) rfl (fun ls hl => ?_)
        refine lv_goto (tgt := 178) hx hb dX9_readsMan_220 (by decide) ?_
        exact ih atv f_5 x3 (x6 + (1 : Int32)) H locs (hP.sub [1, 0, 2] rfl) (hD.sub [1, 0, 2] (by decide) rfl) hS ls (lv_sub hl [1, 2, 3, 0] rfl) hw
      · replace hw := hw.2 c_3
        refine lv_aload_n hx hb dX9_readsMan_195 rfl (lv_at hl 0 rfl) ?_
        refine lv_iload_n hx hb dX9_readsMan_196 rfl (lv_at hl 2 rfl) ?_
        refine va_put (D := G.1) (ci := 9) (v := .int x3) (ty := .int) (C := RX9) (T := TX9) (N := 14) hx hb hts in_X9 tyX9 tyX9_ok nmX9 hown hK.1 hP hD hS 1 rfl rfl 6 (by decide) (hts _ q823) (fun _ h9 => h9) rfl (by decide +kernel) rfl rfl (Nat.le_of_ble_eq_true rfl) dX9_readsMan_197 (fun H locs hP hD hS => ?_)
        have hP : va_P G.1 gCl [ai G h_tape 70 tape, oc h 9 [.ref h_s, .ref h_images, .int kept, .ref h_tape, .int typed, .ref h_draft, .int x3, .ref h_items, .ref h_moved, .ref h_sizes, .ref h_lanes, .ref h_less, .ref h_aside, .ref h_order], ai G h_draft 40 draft] H := hP
        have hD : va_D A [ai G h_tape 70 tape, oc h 9 [.ref h_s, .ref h_images, .int kept, .ref h_tape, .int typed, .ref h_draft, .int x3, .ref h_items, .ref h_moved, .ref h_sizes, .ref h_lanes, .ref h_less, .ref h_aside, .ref h_order], ai G h_draft 40 draft] := hD
        refine lv_iconst (v := (0 : Int32)) hx hb dX9_readsMan_200 (by decide) ?_
        have hP9 := hP.sub (ws' := [oc h 9 [.ref h_s, .ref h_images, .int kept, .ref h_tape, .int typed, .ref h_draft, .int x3, .ref h_items, .ref h_moved, .ref h_sizes, .ref h_lanes, .ref h_less, .ref h_aside, .ref h_order], ai G h_tape 70 tape, ai G h_draft 40 draft]) [1, 0, 2] rfl
        have hD9 := hD.sub (ws' := [oc h 9 [.ref h_s, .ref h_images, .int kept, .ref h_tape, .int typed, .ref h_draft, .int x3, .ref h_items, .ref h_moved, .ref h_sizes, .ref h_lanes, .ref h_less, .ref h_aside, .ref h_order], ai G h_tape 70 tape, ai G h_draft 40 draft]) [1, 0, 2] (by decide) rfl
        exact W.zret (v := (0 : Int32)) hx hb hr rfl (fun t ht hW => ⟨⟨(0 : Int32), (x3, draft), rfl, hw, by rw [ht]; exact hP9, hD9⟩, hS.F ht⟩) hS.2.2 dX9_readsMan_201
def wp_X9_readsMan_117 (typed : Int32) (tape : Nat → Int32) (p1 : Int32) (Q : Int32 → (Int32 × (Nat → Int32)) → Prop)  (atv : Int32) (draft : Nat → Int32) (x2 : Int32) (x3 : Int32) (x4 : Int32) (x5 : Int32) : Prop :=
  wp_X9_in  x5 (1 : Int32) (60 : Int32) (fun r_1 => ((¬ (r_1 = 0) → (vp_in ((16 : Int32) + p1) 40 ∧ ∀ f_4 : Nat → Int32, f_4 = upd draft (((16 : Int32) + p1)).toNatClampNeg x2 → (vp_in ((4 : Int32) + p1) 40 ∧ ∀ f_6 : Nat → Int32, f_6 = upd f_4 (((4 : Int32) + p1)).toNatClampNeg x5 → (vp_in ((10 : Int32) + p1) 40 ∧ ∀ f_8 : Nat → Int32, f_8 = upd f_6 (((10 : Int32) + p1)).toNatClampNeg p1 → wp_X9_skips typed atv tape  (fun r_9 u_10 => (((r_9 = (46 : Int32)) → (∀ v_12 : Int32, v_12 = (u_10 + (1 : Int32)) → (∃ j_ : Nat, wp_X9_readsMan_238 typed tape p1 Q  j_ v_12 f_8 (0 : Int32)))) ∧ (¬ (r_9 = (46 : Int32)) → (∃ j_ : Nat, wp_X9_readsMan_178 typed tape p1 Q  j_ u_10 f_8 x3 (0 : Int32))))))))) ∧ ((r_1 = 0) → Q (0 : Int32) (x4, draft))))
set_option maxHeartbeats 4000000 in
theorem wk_X9_readsMan_117 {p : Program} {l : Launch} {e : Env} {s : State} {m : MethodId} {below : List Frame} {meth : Method} {c : Code} {args : Array Value} {G : GT} {A : Nat → Prop} (h h_s h_images h_tape h_draft h_items h_moved h_sizes h_lanes h_less h_aside h_order : Nat) (kept : Int32) (typed : Int32) (tape : Nat → Int32) (p1 : Int32) (Q : Int32 → (Int32 × (Nat → Int32)) → Prop)  (C : Cx p s m meth c cX9_readsMan 8 (some .boolean) RX9 args G A)  :
    ∀  (atv : Int32) (draft : Nat → Int32) (x2 : Int32) (x3 : Int32) (x4 : Int32) (x5 : Int32) (H : Heap) (locs : List Loc), va_P G.1 gCl [oc h 9 [.ref h_s, .ref h_images, .int kept, .ref h_tape, .int typed, .ref h_draft, .int atv, .ref h_items, .ref h_moved, .ref h_sizes, .ref h_lanes, .ref h_less, .ref h_aside, .ref h_order], ai G h_tape 70 tape, ai G h_draft 40 draft] H → va_D A [oc h 9 [.ref h_s, .ref h_images, .int kept, .ref h_tape, .int typed, .ref h_draft, .int atv, .ref h_items, .ref h_moved, .ref h_sizes, .ref h_lanes, .ref h_less, .ref h_aside, .ref h_order], ai G h_tape 70 tape, ai G h_draft 40 draft] → va_S A s.heap H locs → ∀ (ls : Array Slot), lv_has ls 8 [(0, .ref h), (1, .int p1), (2, .int x2), (3, .int x3), (4, .int x4), (5, .int x5)] → wp_X9_readsMan_117 typed tape p1 Q   atv draft x2 x3 x4 x5 → W p l e ({ frames := 2, cells := 0, slots := 0, locals := 42 } : Room) s m args below meth c H locs 0 0 (MQ below (va_Qi (fun (r : Int32) (u : Int32 × (Nat → Int32)) => Q r u) (fun u t => va_P G.1 gCl [oc h 9 [.ref h_s, .ref h_images, .int kept, .ref h_tape, .int typed, .ref h_draft, .int u.1, .ref h_items, .ref h_moved, .ref h_sizes, .ref h_lanes, .ref h_less, .ref h_aside, .ref h_order], ai G h_tape 70 tape, ai G h_draft 40 u.2] t.heap ∧ va_D A [oc h 9 [.ref h_s, .ref h_images, .int kept, .ref h_tape, .int typed, .ref h_draft, .int u.1, .ref h_items, .ref h_moved, .ref h_sizes, .ref h_lanes, .ref h_less, .ref h_aside, .ref h_order], ai G h_tape 70 tape, ai G h_draft 40 u.2]) A) args s 0 0 A) (F0 m 117 ls []) := by
  have C9 := C
  obtain ⟨hx, hb, hr, hlocks, hml, hown, hts, hK, hA⟩ := C9
  intro atv draft x2 x3 x4 x5 H locs hP hD hS ls hl hw
  unfold wp_X9_readsMan_117 at hw
  refine lv_iload hx hb dX9_readsMan_117 (lv_at hl 5 rfl) ?_
  refine lv_iconst (v := (1 : Int32)) hx hb dX9_readsMan_119 (by decide) ?_
  refine lv_bipush (v := (60 : Int32)) hx hb dX9_readsMan_120 (by decide) ?_
  have hPc := hP.sub (ws' := []) [] rfl
  have hDc := hD.sub (ws' := []) [] (by decide) rfl
  have hFc := va_free (wc := []) hD hS hA [] rfl
  refine va_calli (va_runS (As := [.int x5, .int (1 : Int32), .int (60 : Int32)]) (rest := []) ⟨hx, hb, hml, hown, hts⟩ (mt_X9_in l G  H.size  x5 (1 : Int32) (60 : Int32) _ hw) (va_cwS 3 hts (lw_S q864 q865 q65 q866) rfl rfl rfl (by decide +kernel) ⟨Nat.le_of_ble_eq_true rfl, Nat.le_of_ble_eq_true rfl⟩) ⟨fun a U g mk q => by obtain ⟨q0, q1, qP, qK, qD⟩ := q; exact ⟨q0, q1, qP, qK.call, qD⟩, fun U hU hW => ⟨rfl, by rw [hU], by rw [hU]; exact hPc, hK.warm hW, hDc.weaken (fun _ _ _ _ => trivial)⟩⟩ rfl rfl hl.1 rfl (lv_room (Nat.le_of_ble_eq_true rfl)) dX9_readsMan_122 ⟨Nat.le_of_ble_eq_true rfl, Nat.le_of_ble_eq_true rfl⟩) hS (fun q _ h => hFc q h) hFc (fun r_1 _ t H1 locs ht hvm hw hB hz1 hk1 hS => ?_)
  obtain ⟨hP1, hD1⟩ := hB
  rw [ht] at hP1
  obtain ⟨hP, hD⟩ := va_join (wr := [oc h 9 [.ref h_s, .ref h_images, .int kept, .ref h_tape, .int typed, .ref h_draft, .int atv, .ref h_items, .ref h_moved, .ref h_sizes, .ref h_lanes, .ref h_less, .ref h_aside, .ref h_order], ai G h_tape 70 tape, ai G h_draft 40 draft]) (w1 := []) hP hD [] [0, 1, 2] rfl rfl (by decide) (by decide) hk1 hFc hP1 hD1
  clear hPc hDc hFc hP1 hD1 hz1 hk1 hvm
  generalize H1 = H at hP hS ⊢
  have hP : va_P G.1 gCl [oc h 9 [.ref h_s, .ref h_images, .int kept, .ref h_tape, .int typed, .ref h_draft, .int atv, .ref h_items, .ref h_moved, .ref h_sizes, .ref h_lanes, .ref h_less, .ref h_aside, .ref h_order], ai G h_tape 70 tape, ai G h_draft 40 draft] H := hP
  have hD : va_D A [oc h 9 [.ref h_s, .ref h_images, .int kept, .ref h_tape, .int typed, .ref h_draft, .int atv, .ref h_items, .ref h_moved, .ref h_sizes, .ref h_lanes, .ref h_less, .ref h_aside, .ref h_order], ai G h_tape 70 tape, ai G h_draft 40 draft] := hD
  refine lv_if_ne (tgt := 136) hx hb dX9_readsMan_125 (by decide) (fun c_2 => ?_) (fun c_2 => ?_)
  · replace hw := hw.1 c_2
    refine lv_aload_n hx hb dX9_readsMan_136 rfl (lv_at hl 0 rfl) ?_
    refine va_get (D := G.1) (ci := 9) (v := .ref h_draft) (C := RX9) (T := TX9) (N := 14) hx hb hts in_X9 hown hK.1 hP 0 rfl rfl 5 (by decide) (hts _ q822) (fun _ h9 => h9) rfl dX9_readsMan_137 ?_
    refine lv_bipush (v := (16 : Int32)) hx hb dX9_readsMan_140 (by decide) ?_
    refine lv_iload_n hx hb dX9_readsMan_142 rfl (lv_at hl 1 rfl) ?_
    refine lv_iadd hx hb dX9_readsMan_143 ?_
    refine lv_iload_n hx hb dX9_readsMan_144 rfl (lv_at hl 2 rfl) ?_
    obtain ⟨i_3, hw⟩ := hw
    refine z_iast hx hb hK.1 hP hD hS 2 0 rfl rfl i_3 dX9_readsMan_145 (k := (((16 : Int32) + p1)).toNatClampNeg) rfl (fun f_4 ef_4 H locs hP hD hS => ?_)
    replace hw := hw f_4 ef_4
    have hP : va_P G.1 gCl [oc h 9 [.ref h_s, .ref h_images, .int kept, .ref h_tape, .int typed, .ref h_draft, .int atv, .ref h_items, .ref h_moved, .ref h_sizes, .ref h_lanes, .ref h_less, .ref h_aside, .ref h_order], ai G h_tape 70 tape, ai G h_draft 40 f_4] H := hP
    have hD : va_D A [oc h 9 [.ref h_s, .ref h_images, .int kept, .ref h_tape, .int typed, .ref h_draft, .int atv, .ref h_items, .ref h_moved, .ref h_sizes, .ref h_lanes, .ref h_less, .ref h_aside, .ref h_order], ai G h_tape 70 tape, ai G h_draft 40 f_4] := hD
    refine lv_aload_n hx hb dX9_readsMan_146 rfl (lv_at hl 0 rfl) ?_
    refine va_get (D := G.1) (ci := 9) (v := .ref h_draft) (C := RX9) (T := TX9) (N := 14) hx hb hts in_X9 hown hK.1 hP 0 rfl rfl 5 (by decide) (hts _ q822) (fun _ h9 => h9) rfl dX9_readsMan_147 ?_
    refine lv_iconst (v := (4 : Int32)) hx hb dX9_readsMan_150 (by decide) ?_
    refine lv_iload_n hx hb dX9_readsMan_151 rfl (lv_at hl 1 rfl) ?_
    refine lv_iadd hx hb dX9_readsMan_152 ?_
    refine lv_iload hx hb dX9_readsMan_153 (lv_at hl 5 rfl) ?_
    obtain ⟨i_5, hw⟩ := hw
    refine z_iast hx hb hK.1 hP hD hS 2 0 rfl rfl i_5 dX9_readsMan_155 (k := (((4 : Int32) + p1)).toNatClampNeg) rfl (fun f_6 ef_6 H locs hP hD hS => ?_)
    replace hw := hw f_6 ef_6
    have hP : va_P G.1 gCl [oc h 9 [.ref h_s, .ref h_images, .int kept, .ref h_tape, .int typed, .ref h_draft, .int atv, .ref h_items, .ref h_moved, .ref h_sizes, .ref h_lanes, .ref h_less, .ref h_aside, .ref h_order], ai G h_tape 70 tape, ai G h_draft 40 f_6] H := hP
    have hD : va_D A [oc h 9 [.ref h_s, .ref h_images, .int kept, .ref h_tape, .int typed, .ref h_draft, .int atv, .ref h_items, .ref h_moved, .ref h_sizes, .ref h_lanes, .ref h_less, .ref h_aside, .ref h_order], ai G h_tape 70 tape, ai G h_draft 40 f_6] := hD
    refine lv_aload_n hx hb dX9_readsMan_156 rfl (lv_at hl 0 rfl) ?_
    refine va_get (D := G.1) (ci := 9) (v := .ref h_draft) (C := RX9) (T := TX9) (N := 14) hx hb hts in_X9 hown hK.1 hP 0 rfl rfl 5 (by decide) (hts _ q822) (fun _ h9 => h9) rfl dX9_readsMan_157 ?_
    refine lv_bipush (v := (10 : Int32)) hx hb dX9_readsMan_160 (by decide) ?_
    refine lv_iload_n hx hb dX9_readsMan_162 rfl (lv_at hl 1 rfl) ?_
    refine lv_iadd hx hb dX9_readsMan_163 ?_
    refine lv_iload_n hx hb dX9_readsMan_164 rfl (lv_at hl 1 rfl) ?_
    obtain ⟨i_7, hw⟩ := hw
    refine z_iast hx hb hK.1 hP hD hS 2 0 rfl rfl i_7 dX9_readsMan_165 (k := (((10 : Int32) + p1)).toNatClampNeg) rfl (fun f_8 ef_8 H locs hP hD hS => ?_)
    replace hw := hw f_8 ef_8
    have hP : va_P G.1 gCl [oc h 9 [.ref h_s, .ref h_images, .int kept, .ref h_tape, .int typed, .ref h_draft, .int atv, .ref h_items, .ref h_moved, .ref h_sizes, .ref h_lanes, .ref h_less, .ref h_aside, .ref h_order], ai G h_tape 70 tape, ai G h_draft 40 f_8] H := hP
    have hD : va_D A [oc h 9 [.ref h_s, .ref h_images, .int kept, .ref h_tape, .int typed, .ref h_draft, .int atv, .ref h_items, .ref h_moved, .ref h_sizes, .ref h_lanes, .ref h_less, .ref h_aside, .ref h_order], ai G h_tape 70 tape, ai G h_draft 40 f_8] := hD
    refine lv_aload_n hx hb dX9_readsMan_166 rfl (lv_at hl 0 rfl) ?_
    have hPc := hP.sub (ws' := [oc h 9 [.ref h_s, .ref h_images, .int kept, .ref h_tape, .int typed, .ref h_draft, .int atv, .ref h_items, .ref h_moved, .ref h_sizes, .ref h_lanes, .ref h_less, .ref h_aside, .ref h_order], ai G h_tape 70 tape]) [0, 1] rfl
    have hDc := hD.sub (ws' := [oc h 9 [.ref h_s, .ref h_images, .int kept, .ref h_tape, .int typed, .ref h_draft, .int atv, .ref h_items, .ref h_moved, .ref h_sizes, .ref h_lanes, .ref h_less, .ref h_aside, .ref h_order], ai G h_tape 70 tape]) [0, 1] (by decide) rfl
    have hFc := va_free (wc := [oc h 9 [.ref h_s, .ref h_images, .int kept, .ref h_tape, .int typed, .ref h_draft, .int atv, .ref h_items, .ref h_moved, .ref h_sizes, .ref h_lanes, .ref h_less, .ref h_aside, .ref h_order], ai G h_tape 70 tape]) hD hS hA [0, 1] rfl
    refine va_calli (va_runV (As := []) (rest := []) ⟨hx, hb, hml, hown, hts⟩ (mt_X9_skips l G h h_s h_images h_tape h_draft h_items h_moved h_sizes h_lanes h_less h_aside h_order H.size kept typed atv tape  _ hw) (cwV 0 hts (lw_V q930 q932 qs36 q65 q933) rfl rfl rfl (by decide +kernel) ⟨Nat.le_of_ble_eq_true rfl, Nat.le_of_ble_eq_true rfl⟩) ⟨fun a U g mk q => by obtain ⟨q0, q1, qP, qK, qD⟩ := q; exact ⟨q0, q1, qP, qK.call, qD⟩, va_recv hK.1 hP (ci := 9) (q0 := 0) rfl rfl, fun U hU hW => ⟨rfl, by rw [hU], by rw [hU]; exact hPc, hK.warm hW, hDc.weaken (fun _ _ _ _ => trivial)⟩⟩ rfl rfl hl.1 rfl (lv_room (Nat.le_of_ble_eq_true rfl)) dX9_readsMan_167 ⟨Nat.le_of_ble_eq_true rfl, Nat.le_of_ble_eq_true rfl⟩) hS (fun q _ h => hFc q h) hFc (fun r_9 u_10 t H1 locs ht hvm hw hB hz1 hk1 hS => ?_)
    obtain ⟨hP1, hD1⟩ := hB
    rw [ht] at hP1
    obtain ⟨hP, hD⟩ := va_join (wr := [ai G h_draft 40 f_8]) (w1 := [oc h 9 [.ref h_s, .ref h_images, .int kept, .ref h_tape, .int typed, .ref h_draft, .int u_10, .ref h_items, .ref h_moved, .ref h_sizes, .ref h_lanes, .ref h_less, .ref h_aside, .ref h_order], ai G h_tape 70 tape]) hP hD [0, 1] [2] rfl rfl (by decide) (by decide) hk1 hFc hP1 hD1
    clear hPc hDc hFc hP1 hD1 hz1 hk1 hvm
    generalize H1 = H at hP hS ⊢
    have hP : va_P G.1 gCl [ai G h_draft 40 f_8, oc h 9 [.ref h_s, .ref h_images, .int kept, .ref h_tape, .int typed, .ref h_draft, .int u_10, .ref h_items, .ref h_moved, .ref h_sizes, .ref h_lanes, .ref h_less, .ref h_aside, .ref h_order], ai G h_tape 70 tape] H := hP
    have hD : va_D A [ai G h_draft 40 f_8, oc h 9 [.ref h_s, .ref h_images, .int kept, .ref h_tape, .int typed, .ref h_draft, .int u_10, .ref h_items, .ref h_moved, .ref h_sizes, .ref h_lanes, .ref h_less, .ref h_aside, .ref h_order], ai G h_tape 70 tape] := hD
    refine lv_bipush (v := (46 : Int32)) hx hb dX9_readsMan_170 (by decide) ?_
    refine lv_icmp_eq (tgt := 225) hx hb dX9_readsMan_172 (by decide) (fun c_11 => ?_) (fun c_11 => ?_)
    · replace hw := hw.1 c_11
      refine lv_aload_n hx hb dX9_readsMan_225 rfl (lv_at hl 0 rfl) ?_
      refine lv_dup hx hb dX9_readsMan_226 rfl ?_
      refine va_get (D := G.1) (ci := 9) (v := .int u_10) (C := RX9) (T := TX9) (N := 14) hx hb hts in_X9 hown hK.1 hP 1 rfl rfl 6 (by decide) (hts _ q823) (fun _ h9 => h9) rfl dX9_readsMan_227 ?_
      refine lv_iconst (v := (1 : Int32)) hx hb dX9_readsMan_230 (by decide) ?_
      refine lv_iadd hx hb dX9_readsMan_231 ?_
      refine lv_topi (fun v_12 ev_12 => ?_)
      replace hw := hw v_12 ev_12
      refine va_put (D := G.1) (ci := 9) (v := .int v_12) (ty := .int) (C := RX9) (T := TX9) (N := 14) hx hb hts in_X9 tyX9 tyX9_ok nmX9 hown hK.1 hP hD hS 1 rfl rfl 6 (by decide) (hts _ q823) (fun _ h9 => h9) rfl (by decide +kernel) rfl rfl (Nat.le_of_ble_eq_true rfl) dX9_readsMan_232 (fun H locs hP hD hS => ?_)
      have hP : va_P G.1 gCl [ai G h_draft 40 f_8, oc h 9 [.ref h_s, .ref h_images, .int kept, .ref h_tape, .int typed, .ref h_draft, .int v_12, .ref h_items, .ref h_moved, .ref h_sizes, .ref h_lanes, .ref h_less, .ref h_aside, .ref h_order], ai G h_tape 70 tape] H := hP
      have hD : va_D A [ai G h_draft 40 f_8, oc h 9 [.ref h_s, .ref h_images, .int kept, .ref h_tape, .int typed, .ref h_draft, .int v_12, .ref h_items, .ref h_moved, .ref h_sizes, .ref h_lanes, .ref h_less, .ref h_aside, .ref h_order], ai G h_tape 70 tape] := hD
      refine lv_iconst (v := (0 : Int32)) hx hb dX9_readsMan_235 (by decide) ?_
      refine lv_istore (lv' := [(6, .int (0 : Int32)), (0, .ref h), (1, .int p1), (2, .int x2), (3, .int x3), (4, .int x4), (5, .int x5)]) hx hb dX9_readsMan_236 hl (by decide) rfl (fun ls hl => ?_)
      obtain ⟨j_, hw⟩ := hw
      exact wk_X9_readsMan_238 h h_s h_images h_tape h_draft h_items h_moved h_sizes h_lanes h_less h_aside h_order kept typed tape p1  Q  C  j_ v_12 f_8 (0 : Int32) H locs (hP.sub [1, 2, 0] rfl) (hD.sub [1, 2, 0] (by decide) rfl) hS ls (lv_sub hl [1, 2, 0] rfl) hw
    · replace hw := hw.2 c_11
      refine lv_iconst (v := (0 : Int32)) hx hb dX9_readsMan_175 (by decide) ?_
      refine lv_istore (lv' := [(6, .int (0 : Int32)), (0, .ref h), (1, .int p1), (2, .int x2), (3, .int x3), (4, .int x4), (5, .int x5)]) hx hb dX9_readsMan_176 hl (by decide) rfl (fun ls hl => ?_)
      obtain ⟨j_, hw⟩ := hw
      exact wk_X9_readsMan_178 h h_s h_images h_tape h_draft h_items h_moved h_sizes h_lanes h_less h_aside h_order kept typed tape p1  Q  C  j_ u_10 f_8 x3 (0 : Int32) H locs (hP.sub [1, 2, 0] rfl) (hD.sub [1, 2, 0] (by decide) rfl) hS ls (lv_sub hl [1, 2, 4, 0] rfl) hw
  · replace hw := hw.2 c_2
    refine lv_aload_n hx hb dX9_readsMan_128 rfl (lv_at hl 0 rfl) ?_
    refine lv_iload hx hb dX9_readsMan_129 (lv_at hl 4 rfl) ?_
    refine va_put (D := G.1) (ci := 9) (v := .int x4) (ty := .int) (C := RX9) (T := TX9) (N := 14) hx hb hts in_X9 tyX9 tyX9_ok nmX9 hown hK.1 hP hD hS 0 rfl rfl 6 (by decide) (hts _ q823) (fun _ h9 => h9) rfl (by decide +kernel) rfl rfl (Nat.le_of_ble_eq_true rfl) dX9_readsMan_131 (fun H locs hP hD hS => ?_)
    have hP : va_P G.1 gCl [oc h 9 [.ref h_s, .ref h_images, .int kept, .ref h_tape, .int typed, .ref h_draft, .int x4, .ref h_items, .ref h_moved, .ref h_sizes, .ref h_lanes, .ref h_less, .ref h_aside, .ref h_order], ai G h_tape 70 tape, ai G h_draft 40 draft] H := hP
    have hD : va_D A [oc h 9 [.ref h_s, .ref h_images, .int kept, .ref h_tape, .int typed, .ref h_draft, .int x4, .ref h_items, .ref h_moved, .ref h_sizes, .ref h_lanes, .ref h_less, .ref h_aside, .ref h_order], ai G h_tape 70 tape, ai G h_draft 40 draft] := hD
    refine lv_iconst (v := (0 : Int32)) hx hb dX9_readsMan_134 (by decide) ?_
    have hP9 := hP
    have hD9 := hD
    exact W.zret (v := (0 : Int32)) hx hb hr rfl (fun t ht hW => ⟨⟨(0 : Int32), (x4, draft), rfl, hw, by rw [ht]; exact hP9, hD9⟩, hS.F ht⟩) hS.2.2 dX9_readsMan_135
def wp_X9_readsMan (typed : Int32) (atv : Int32) (tape : Nat → Int32) (draft : Nat → Int32) (p1 : Int32) (Q : Int32 → (Int32 × (Nat → Int32)) → Prop) : Prop :=
  wp_X9_skips typed atv tape  (fun r_1 u_2 => wp_X9_kindBy  r_1 (fun r_3 => ((¬ (r_3 = (-4 : Int32)) → (∀ v_5 : Int32, v_5 = (u_2 + (1 : Int32)) → wp_X9_skips typed v_5 tape  (fun r_6 u_7 => wp_X9_isDigit  r_6 (fun r_8 => ((¬ (r_8 = 0) → (vp_in u_7 70 ∧ (∀ v_11 : Int32, v_11 = ((tape u_7.toNatClampNeg) - (48 : Int32)) → (∀ v_12 : Int32, v_12 = (u_7 + (1 : Int32)) → wp_X9_letterAt typed tape v_12 (fun r_13 => wp_X9_isDigit  r_13 (fun r_14 => (((r_14 = 0) → wp_X9_readsMan_117 typed tape p1 Q  v_12 draft r_3 u_2 u_7 v_11) ∧ (¬ (r_14 = 0) → (vp_in v_12 70 ∧ (∀ v_17 : Int32, v_17 = ((((10 : Int32) * v_11) + (tape v_12.toNatClampNeg)) - (48 : Int32)) → (∀ v_18 : Int32, v_18 = (v_12 + (1 : Int32)) → wp_X9_readsMan_117 typed tape p1 Q  v_18 draft r_3 u_2 u_7 v_17))))))))))) ∧ ((r_8 = 0) → Q (0 : Int32) (u_7, draft))))))) ∧ ((r_3 = (-4 : Int32)) → Q (0 : Int32) (u_2, draft)))))
set_option maxHeartbeats 4000000 in
theorem mt_X9_readsMan (l : Launch) (G : GT) (h h_s h_images h_tape h_draft h_items h_moved h_sizes h_lanes h_less h_aside h_order : Nat) (sz : Nat) (kept : Int32) (typed : Int32) (atv : Int32) (tape : Nat → Int32) (draft : Nat → Int32) (p1 : Int32) (Q : Int32 → (Int32 × (Nat → Int32)) → Prop) (hw : wp_X9_readsMan typed atv tape draft p1 Q) : Met l yX9_readsMan (ws_ yX9_readsMan cX9_readsMan 8 (some .boolean)) ({ frames := 2, cells := 0, slots := 0, locals := 42 } : Room) (va_Pc [.ref h, .int p1] (fun U => U.heap.size = sz ∧ va_P G.1 gCl [oc h 9 [.ref h_s, .ref h_images, .int kept, .ref h_tape, .int typed, .ref h_draft, .int atv, .ref h_items, .ref h_moved, .ref h_sizes, .ref h_lanes, .ref h_less, .ref h_aside, .ref h_order], ai G h_tape 70 tape, ai G h_draft 40 draft] U.heap ∧ gK G U ∧ va_D (fun _ => True) [oc h 9 [.ref h_s, .ref h_images, .int kept, .ref h_tape, .int typed, .ref h_draft, .int atv, .ref h_items, .ref h_moved, .ref h_sizes, .ref h_lanes, .ref h_less, .ref h_aside, .ref h_order], ai G h_tape 70 tape, ai G h_draft 40 draft])) ((fun A => (va_Qi (fun (r : Int32) (u : Int32 × (Nat → Int32)) => Q r u) (fun u t => va_P G.1 gCl [oc h 9 [.ref h_s, .ref h_images, .int kept, .ref h_tape, .int typed, .ref h_draft, .int u.1, .ref h_items, .ref h_moved, .ref h_sizes, .ref h_lanes, .ref h_less, .ref h_aside, .ref h_order], ai G h_tape 70 tape, ai G h_draft 40 u.2] t.heap ∧ va_D A [oc h 9 [.ref h_s, .ref h_images, .int kept, .ref h_tape, .int typed, .ref h_draft, .int u.1, .ref h_items, .ref h_moved, .ref h_sizes, .ref h_lanes, .ref h_less, .ref h_aside, .ref h_order], ai G h_tape 70 tape, ai G h_draft 40 u.2]) A)) (va_A [oc h 9 [.ref h_s, .ref h_images, .int kept, .ref h_tape, .int typed, .ref h_draft, .int atv, .ref h_items, .ref h_moved, .ref h_sizes, .ref h_lanes, .ref h_less, .ref h_aside, .ref h_order], ai G h_tape 70 tape, ai G h_draft 40 draft] sz)) 0 0 (va_A [oc h 9 [.ref h_s, .ref h_images, .int kept, .ref h_tape, .int typed, .ref h_draft, .int atv, .ref h_items, .ref h_moved, .ref h_sizes, .ref h_lanes, .ref h_less, .ref h_aside, .ref h_order], ai G h_tape 70 tape, ai G h_draft 40 draft] sz) := by
  refine Met.ofW (cc := cX9_readsMan) (maxL := 8) (ret := (some .boolean)) (by decide) rfl ?_
  intro p e s m args below meth c s₁ B hml hv
  obtain ⟨rfl, hsz, hP, hK, hD0⟩ := hv
  have hx := B.exec
  have hb := B.bytes
  have hr := B.returns
  have hts := atoms_spec (ws := (ws_ yX9_readsMan cX9_readsMan 8 (some .boolean))) B.pre
  have hts : ∀ w ∈ lw_all, w.before _ s = true := fun w h => hts w (List.mem_cons_of_mem _ h)
  have hown : s.vm.findClass RX9 = some m.cls := findClass_of_methodNamed B.named
  have hlocks := B.notSynchronized
  subst hsz
  have hD := hD0.self (sz := s.heap.size)
  generalize hAe : va_A [oc h 9 [.ref h_s, .ref h_images, .int kept, .ref h_tape, .int typed, .ref h_draft, .int atv, .ref h_items, .ref h_moved, .ref h_sizes, .ref h_lanes, .ref h_less, .ref h_aside, .ref h_order], ai G h_tape 70 tape, ai G h_draft 40 draft] s.heap.size = A at hD ⊢
  have hA : ∀ q : Nat, s.heap.size ≤ q → A q := fun q h => by rw [← hAe]; exact Or.inr h
  have hS : va_S A s.heap s.heap [] := va_S.rf
  have C : Cx p s m meth c cX9_readsMan 8 (some .boolean) RX9 ([.ref h, .int p1] : List Value).toArray G A := ⟨hx, hb, hr, hlocks, hml, hown, hts, hK, hA⟩
  have hl := lv_entry ([.ref h, .int p1]) (n := 8) (Nat.le_of_ble_eq_true rfl)
  rw [lg_entry_eq]
  generalize (lg_sl ([.ref h, .int p1]) ++ List.replicate (8 - (lg_sl ([.ref h, .int p1])).length) Slot.unset).toArray = ls at hl ⊢
  have hl : lv_has ls 8 [(0, .ref h), (1, .int p1)] := hl
  unfold wp_X9_readsMan at hw
  refine lv_aload_n hx hb dX9_readsMan_0 rfl (lv_at hl 0 rfl) ?_
  have hPc := hP.sub (ws' := [oc h 9 [.ref h_s, .ref h_images, .int kept, .ref h_tape, .int typed, .ref h_draft, .int atv, .ref h_items, .ref h_moved, .ref h_sizes, .ref h_lanes, .ref h_less, .ref h_aside, .ref h_order], ai G h_tape 70 tape]) [0, 1] rfl
  have hDc := hD.sub (ws' := [oc h 9 [.ref h_s, .ref h_images, .int kept, .ref h_tape, .int typed, .ref h_draft, .int atv, .ref h_items, .ref h_moved, .ref h_sizes, .ref h_lanes, .ref h_less, .ref h_aside, .ref h_order], ai G h_tape 70 tape]) [0, 1] (by decide) rfl
  have hFc := va_free (wc := [oc h 9 [.ref h_s, .ref h_images, .int kept, .ref h_tape, .int typed, .ref h_draft, .int atv, .ref h_items, .ref h_moved, .ref h_sizes, .ref h_lanes, .ref h_less, .ref h_aside, .ref h_order], ai G h_tape 70 tape]) hD hS hA [0, 1] rfl
  refine va_calli (va_runV (As := []) (rest := []) ⟨hx, hb, hml, hown, hts⟩ (mt_X9_skips l G h h_s h_images h_tape h_draft h_items h_moved h_sizes h_lanes h_less h_aside h_order s.heap.size kept typed atv tape  _ hw) (cwV 0 hts (lw_V q930 q932 qs36 q65 q933) rfl rfl rfl (by decide +kernel) ⟨Nat.le_of_ble_eq_true rfl, Nat.le_of_ble_eq_true rfl⟩) ⟨fun a U g mk q => by obtain ⟨q0, q1, qP, qK, qD⟩ := q; exact ⟨q0, q1, qP, qK.call, qD⟩, va_recv hK.1 hP (ci := 9) (q0 := 0) rfl rfl, fun U hU hW => ⟨rfl, by rw [hU], by rw [hU]; exact hPc, hK.warm hW, hDc.weaken (fun _ _ _ _ => trivial)⟩⟩ rfl rfl hl.1 rfl (lv_room (Nat.le_of_ble_eq_true rfl)) dX9_readsMan_1 ⟨Nat.le_of_ble_eq_true rfl, Nat.le_of_ble_eq_true rfl⟩) hS (fun q _ h => hFc q h) hFc (fun r_1 u_2 t H1 locs ht hvm hw hB hz1 hk1 hS => ?_)
  obtain ⟨hP1, hD1⟩ := hB
  rw [ht] at hP1
  obtain ⟨hP, hD⟩ := va_join (wr := [ai G h_draft 40 draft]) (w1 := [oc h 9 [.ref h_s, .ref h_images, .int kept, .ref h_tape, .int typed, .ref h_draft, .int u_2, .ref h_items, .ref h_moved, .ref h_sizes, .ref h_lanes, .ref h_less, .ref h_aside, .ref h_order], ai G h_tape 70 tape]) hP hD [0, 1] [2] rfl rfl (by decide) (by decide) hk1 hFc hP1 hD1
  clear hPc hDc hFc hP1 hD1 hz1 hk1 hvm
  generalize H1 = H at hP hS ⊢
  have hP : va_P G.1 gCl [ai G h_draft 40 draft, oc h 9 [.ref h_s, .ref h_images, .int kept, .ref h_tape, .int typed, .ref h_draft, .int u_2, .ref h_items, .ref h_moved, .ref h_sizes, .ref h_lanes, .ref h_less, .ref h_aside, .ref h_order], ai G h_tape 70 tape] H := hP
  have hD : va_D A [ai G h_draft 40 draft, oc h 9 [.ref h_s, .ref h_images, .int kept, .ref h_tape, .int typed, .ref h_draft, .int u_2, .ref h_items, .ref h_moved, .ref h_sizes, .ref h_lanes, .ref h_less, .ref h_aside, .ref h_order], ai G h_tape 70 tape] := hD
  have hPc := hP.sub (ws' := []) [] rfl
  have hDc := hD.sub (ws' := []) [] (by decide) rfl
  have hFc := va_free (wc := []) hD hS hA [] rfl
  refine va_calli (va_runS (As := [.int r_1]) (rest := []) ⟨hx, hb, hml, hown, hts⟩ (mt_X9_kindBy l G  H.size  r_1 _ hw) (va_cwS 1 hts (lw_S q938 q939 q65 q940) rfl rfl rfl (by decide +kernel) ⟨Nat.le_of_ble_eq_true rfl, Nat.le_of_ble_eq_true rfl⟩) ⟨fun a U g mk q => by obtain ⟨q0, q1, qP, qK, qD⟩ := q; exact ⟨q0, q1, qP, qK.call, qD⟩, fun U hU hW => ⟨rfl, by rw [hU], by rw [hU]; exact hPc, hK.warm hW, hDc.weaken (fun _ _ _ _ => trivial)⟩⟩ rfl rfl hl.1 rfl (lv_room (Nat.le_of_ble_eq_true rfl)) dX9_readsMan_4 ⟨Nat.le_of_ble_eq_true rfl, Nat.le_of_ble_eq_true rfl⟩) hS (fun q _ h => hFc q h) hFc (fun r_3 _ t H1 locs ht hvm hw hB hz1 hk1 hS => ?_)
  obtain ⟨hP1, hD1⟩ := hB
  rw [ht] at hP1
  obtain ⟨hP, hD⟩ := va_join (wr := [ai G h_draft 40 draft, oc h 9 [.ref h_s, .ref h_images, .int kept, .ref h_tape, .int typed, .ref h_draft, .int u_2, .ref h_items, .ref h_moved, .ref h_sizes, .ref h_lanes, .ref h_less, .ref h_aside, .ref h_order], ai G h_tape 70 tape]) (w1 := []) hP hD [] [0, 1, 2] rfl rfl (by decide) (by decide) hk1 hFc hP1 hD1
  clear hPc hDc hFc hP1 hD1 hz1 hk1 hvm
  generalize H1 = H at hP hS ⊢
  have hP : va_P G.1 gCl [ai G h_draft 40 draft, oc h 9 [.ref h_s, .ref h_images, .int kept, .ref h_tape, .int typed, .ref h_draft, .int u_2, .ref h_items, .ref h_moved, .ref h_sizes, .ref h_lanes, .ref h_less, .ref h_aside, .ref h_order], ai G h_tape 70 tape] H := hP
  have hD : va_D A [ai G h_draft 40 draft, oc h 9 [.ref h_s, .ref h_images, .int kept, .ref h_tape, .int typed, .ref h_draft, .int u_2, .ref h_items, .ref h_moved, .ref h_sizes, .ref h_lanes, .ref h_less, .ref h_aside, .ref h_order], ai G h_tape 70 tape] := hD
  refine lv_istore_n (lv' := [(2, .int r_3), (0, .ref h), (1, .int p1)]) hx hb dX9_readsMan_7 rfl hl (by decide) rfl (fun ls hl => ?_)
  refine lv_aload_n hx hb dX9_readsMan_8 rfl (lv_at hl 1 rfl) ?_
  refine va_get (D := G.1) (ci := 9) (v := .int u_2) (C := RX9) (T := TX9) (N := 14) hx hb hts in_X9 hown hK.1 hP 1 rfl rfl 6 (by decide) (hts _ q823) (fun _ h9 => h9) rfl dX9_readsMan_9 ?_
  refine lv_istore_n (lv' := [(3, .int u_2), (2, .int r_3), (0, .ref h), (1, .int p1)]) hx hb dX9_readsMan_12 rfl hl (by decide) rfl (fun ls hl => ?_)
  refine lv_iload_n hx hb dX9_readsMan_13 rfl (lv_at hl 1 rfl) ?_
  refine lv_bipush (v := (-4 : Int32)) hx hb dX9_readsMan_14 (by decide) ?_
  refine lv_icmp_ne (tgt := 21) hx hb dX9_readsMan_16 (by decide) (fun c_4 => ?_) (fun c_4 => ?_)
  · replace hw := hw.1 c_4
    refine lv_aload_n hx hb dX9_readsMan_21 rfl (lv_at hl 2 rfl) ?_
    refine lv_dup hx hb dX9_readsMan_22 rfl ?_
    refine va_get (D := G.1) (ci := 9) (v := .int u_2) (C := RX9) (T := TX9) (N := 14) hx hb hts in_X9 hown hK.1 hP 1 rfl rfl 6 (by decide) (hts _ q823) (fun _ h9 => h9) rfl dX9_readsMan_23 ?_
    refine lv_iconst (v := (1 : Int32)) hx hb dX9_readsMan_26 (by decide) ?_
    refine lv_iadd hx hb dX9_readsMan_27 ?_
    refine lv_topi (fun v_5 ev_5 => ?_)
    replace hw := hw v_5 ev_5
    refine va_put (D := G.1) (ci := 9) (v := .int v_5) (ty := .int) (C := RX9) (T := TX9) (N := 14) hx hb hts in_X9 tyX9 tyX9_ok nmX9 hown hK.1 hP hD hS 1 rfl rfl 6 (by decide) (hts _ q823) (fun _ h9 => h9) rfl (by decide +kernel) rfl rfl (Nat.le_of_ble_eq_true rfl) dX9_readsMan_28 (fun H locs hP hD hS => ?_)
    have hP : va_P G.1 gCl [ai G h_draft 40 draft, oc h 9 [.ref h_s, .ref h_images, .int kept, .ref h_tape, .int typed, .ref h_draft, .int v_5, .ref h_items, .ref h_moved, .ref h_sizes, .ref h_lanes, .ref h_less, .ref h_aside, .ref h_order], ai G h_tape 70 tape] H := hP
    have hD : va_D A [ai G h_draft 40 draft, oc h 9 [.ref h_s, .ref h_images, .int kept, .ref h_tape, .int typed, .ref h_draft, .int v_5, .ref h_items, .ref h_moved, .ref h_sizes, .ref h_lanes, .ref h_less, .ref h_aside, .ref h_order], ai G h_tape 70 tape] := hD
    refine lv_aload_n hx hb dX9_readsMan_31 rfl (lv_at hl 2 rfl) ?_
    have hPc := hP.sub (ws' := [oc h 9 [.ref h_s, .ref h_images, .int kept, .ref h_tape, .int typed, .ref h_draft, .int v_5, .ref h_items, .ref h_moved, .ref h_sizes, .ref h_lanes, .ref h_less, .ref h_aside, .ref h_order], ai G h_tape 70 tape]) [1, 2] rfl
    have hDc := hD.sub (ws' := [oc h 9 [.ref h_s, .ref h_images, .int kept, .ref h_tape, .int typed, .ref h_draft, .int v_5, .ref h_items, .ref h_moved, .ref h_sizes, .ref h_lanes, .ref h_less, .ref h_aside, .ref h_order], ai G h_tape 70 tape]) [1, 2] (by decide) rfl
    have hFc := va_free (wc := [oc h 9 [.ref h_s, .ref h_images, .int kept, .ref h_tape, .int typed, .ref h_draft, .int v_5, .ref h_items, .ref h_moved, .ref h_sizes, .ref h_lanes, .ref h_less, .ref h_aside, .ref h_order], ai G h_tape 70 tape]) hD hS hA [1, 2] rfl
    refine va_calli (va_runV (As := []) (rest := []) ⟨hx, hb, hml, hown, hts⟩ (mt_X9_skips l G h h_s h_images h_tape h_draft h_items h_moved h_sizes h_lanes h_less h_aside h_order H.size kept typed v_5 tape  _ hw) (cwV 0 hts (lw_V q930 q932 qs36 q65 q933) rfl rfl rfl (by decide +kernel) ⟨Nat.le_of_ble_eq_true rfl, Nat.le_of_ble_eq_true rfl⟩) ⟨fun a U g mk q => by obtain ⟨q0, q1, qP, qK, qD⟩ := q; exact ⟨q0, q1, qP, qK.call, qD⟩, va_recv hK.1 hP (ci := 9) (q0 := 1) rfl rfl, fun U hU hW => ⟨rfl, by rw [hU], by rw [hU]; exact hPc, hK.warm hW, hDc.weaken (fun _ _ _ _ => trivial)⟩⟩ rfl rfl hl.1 rfl (lv_room (Nat.le_of_ble_eq_true rfl)) dX9_readsMan_32 ⟨Nat.le_of_ble_eq_true rfl, Nat.le_of_ble_eq_true rfl⟩) hS (fun q _ h => hFc q h) hFc (fun r_6 u_7 t H1 locs ht hvm hw hB hz1 hk1 hS => ?_)
    obtain ⟨hP1, hD1⟩ := hB
    rw [ht] at hP1
    obtain ⟨hP, hD⟩ := va_join (wr := [ai G h_draft 40 draft]) (w1 := [oc h 9 [.ref h_s, .ref h_images, .int kept, .ref h_tape, .int typed, .ref h_draft, .int u_7, .ref h_items, .ref h_moved, .ref h_sizes, .ref h_lanes, .ref h_less, .ref h_aside, .ref h_order], ai G h_tape 70 tape]) hP hD [1, 2] [0] rfl rfl (by decide) (by decide) hk1 hFc hP1 hD1
    clear hPc hDc hFc hP1 hD1 hz1 hk1 hvm
    generalize H1 = H at hP hS ⊢
    have hP : va_P G.1 gCl [ai G h_draft 40 draft, oc h 9 [.ref h_s, .ref h_images, .int kept, .ref h_tape, .int typed, .ref h_draft, .int u_7, .ref h_items, .ref h_moved, .ref h_sizes, .ref h_lanes, .ref h_less, .ref h_aside, .ref h_order], ai G h_tape 70 tape] H := hP
    have hD : va_D A [ai G h_draft 40 draft, oc h 9 [.ref h_s, .ref h_images, .int kept, .ref h_tape, .int typed, .ref h_draft, .int u_7, .ref h_items, .ref h_moved, .ref h_sizes, .ref h_lanes, .ref h_less, .ref h_aside, .ref h_order], ai G h_tape 70 tape] := hD
    have hPc := hP.sub (ws' := []) [] rfl
    have hDc := hD.sub (ws' := []) [] (by decide) rfl
    have hFc := va_free (wc := []) hD hS hA [] rfl
    refine va_calli (va_runS (As := [.int r_6]) (rest := []) ⟨hx, hb, hml, hown, hts⟩ (mt_X9_isDigit l G  H.size  r_6 _ hw) (va_cwS 1 hts (lw_S q941 q942 q65 q943) rfl rfl rfl (by decide +kernel) ⟨Nat.le_of_ble_eq_true rfl, Nat.le_of_ble_eq_true rfl⟩) ⟨fun a U g mk q => by obtain ⟨q0, q1, qP, qK, qD⟩ := q; exact ⟨q0, q1, qP, qK.call, qD⟩, fun U hU hW => ⟨rfl, by rw [hU], by rw [hU]; exact hPc, hK.warm hW, hDc.weaken (fun _ _ _ _ => trivial)⟩⟩ rfl rfl hl.1 rfl (lv_room (Nat.le_of_ble_eq_true rfl)) dX9_readsMan_35 ⟨Nat.le_of_ble_eq_true rfl, Nat.le_of_ble_eq_true rfl⟩) hS (fun q _ h => hFc q h) hFc (fun r_8 _ t H1 locs ht hvm hw hB hz1 hk1 hS => ?_)
    obtain ⟨hP1, hD1⟩ := hB
    rw [ht] at hP1
    obtain ⟨hP, hD⟩ := va_join (wr := [ai G h_draft 40 draft, oc h 9 [.ref h_s, .ref h_images, .int kept, .ref h_tape, .int typed, .ref h_draft, .int u_7, .ref h_items, .ref h_moved, .ref h_sizes, .ref h_lanes, .ref h_less, .ref h_aside, .ref h_order], ai G h_tape 70 tape]) (w1 := []) hP hD [] [0, 1, 2] rfl rfl (by decide) (by decide) hk1 hFc hP1 hD1
    clear hPc hDc hFc hP1 hD1 hz1 hk1 hvm
    generalize H1 = H at hP hS ⊢
    have hP : va_P G.1 gCl [ai G h_draft 40 draft, oc h 9 [.ref h_s, .ref h_images, .int kept, .ref h_tape, .int typed, .ref h_draft, .int u_7, .ref h_items, .ref h_moved, .ref h_sizes, .ref h_lanes, .ref h_less, .ref h_aside, .ref h_order], ai G h_tape 70 tape] H := hP
    have hD : va_D A [ai G h_draft 40 draft, oc h 9 [.ref h_s, .ref h_images, .int kept, .ref h_tape, .int typed, .ref h_draft, .int u_7, .ref h_items, .ref h_moved, .ref h_sizes, .ref h_lanes, .ref h_less, .ref h_aside, .ref h_order], ai G h_tape 70 tape] := hD
    refine lv_if_ne (tgt := 43) hx hb dX9_readsMan_38 (by decide) (fun c_9 => ?_) (fun c_9 => ?_)
    · replace hw := hw.1 c_9
      refine lv_aload_n hx hb dX9_readsMan_43 rfl (lv_at hl 2 rfl) ?_
      refine va_get (D := G.1) (ci := 9) (v := .int u_7) (C := RX9) (T := TX9) (N := 14) hx hb hts in_X9 hown hK.1 hP 1 rfl rfl 6 (by decide) (hts _ q823) (fun _ h9 => h9) rfl dX9_readsMan_44 ?_
      refine lv_istore (lv' := [(4, .int u_7), (3, .int u_2), (2, .int r_3), (0, .ref h), (1, .int p1)]) hx hb dX9_readsMan_47 hl (by decide) rfl (fun ls hl => ?_)
      refine lv_aload_n hx hb dX9_readsMan_49 rfl (lv_at hl 3 rfl) ?_
      refine va_get (D := G.1) (ci := 9) (v := .ref h_tape) (C := RX9) (T := TX9) (N := 14) hx hb hts in_X9 hown hK.1 hP 1 rfl rfl 3 (by decide) (hts _ q820) (fun _ h9 => h9) rfl dX9_readsMan_50 ?_
      refine lv_aload_n hx hb dX9_readsMan_53 rfl (lv_at hl 3 rfl) ?_
      refine va_get (D := G.1) (ci := 9) (v := .int u_7) (C := RX9) (T := TX9) (N := 14) hx hb hts in_X9 hown hK.1 hP 1 rfl rfl 6 (by decide) (hts _ q823) (fun _ h9 => h9) rfl dX9_readsMan_54 ?_
      obtain ⟨i_10, hw⟩ := hw
      refine z_iald hx hb hK.1 hP 2 0 rfl rfl i_10 dX9_readsMan_57 (k := u_7.toNatClampNeg) rfl ?_
      refine lv_bipush (v := (48 : Int32)) hx hb dX9_readsMan_58 (by decide) ?_
      refine lv_isub hx hb dX9_readsMan_60 ?_
      refine lv_topi (fun v_11 ev_11 => ?_)
      replace hw := hw v_11 ev_11
      refine lv_istore (lv' := [(5, .int v_11), (4, .int u_7), (3, .int u_2), (2, .int r_3), (0, .ref h), (1, .int p1)]) hx hb dX9_readsMan_61 hl (by decide) rfl (fun ls hl => ?_)
      refine lv_aload_n hx hb dX9_readsMan_63 rfl (lv_at hl 4 rfl) ?_
      refine lv_dup hx hb dX9_readsMan_64 rfl ?_
      refine va_get (D := G.1) (ci := 9) (v := .int u_7) (C := RX9) (T := TX9) (N := 14) hx hb hts in_X9 hown hK.1 hP 1 rfl rfl 6 (by decide) (hts _ q823) (fun _ h9 => h9) rfl dX9_readsMan_65 ?_
      refine lv_iconst (v := (1 : Int32)) hx hb dX9_readsMan_68 (by decide) ?_
      refine lv_iadd hx hb dX9_readsMan_69 ?_
      refine lv_topi (fun v_12 ev_12 => ?_)
      replace hw := hw v_12 ev_12
      refine va_put (D := G.1) (ci := 9) (v := .int v_12) (ty := .int) (C := RX9) (T := TX9) (N := 14) hx hb hts in_X9 tyX9 tyX9_ok nmX9 hown hK.1 hP hD hS 1 rfl rfl 6 (by decide) (hts _ q823) (fun _ h9 => h9) rfl (by decide +kernel) rfl rfl (Nat.le_of_ble_eq_true rfl) dX9_readsMan_70 (fun H locs hP hD hS => ?_)
      have hP : va_P G.1 gCl [ai G h_draft 40 draft, oc h 9 [.ref h_s, .ref h_images, .int kept, .ref h_tape, .int typed, .ref h_draft, .int v_12, .ref h_items, .ref h_moved, .ref h_sizes, .ref h_lanes, .ref h_less, .ref h_aside, .ref h_order], ai G h_tape 70 tape] H := hP
      have hD : va_D A [ai G h_draft 40 draft, oc h 9 [.ref h_s, .ref h_images, .int kept, .ref h_tape, .int typed, .ref h_draft, .int v_12, .ref h_items, .ref h_moved, .ref h_sizes, .ref h_lanes, .ref h_less, .ref h_aside, .ref h_order], ai G h_tape 70 tape] := hD
      refine lv_aload_n hx hb dX9_readsMan_73 rfl (lv_at hl 4 rfl) ?_
      refine lv_aload_n hx hb dX9_readsMan_74 rfl (lv_at hl 4 rfl) ?_
      refine va_get (D := G.1) (ci := 9) (v := .int v_12) (C := RX9) (T := TX9) (N := 14) hx hb hts in_X9 hown hK.1 hP 1 rfl rfl 6 (by decide) (hts _ q823) (fun _ h9 => h9) rfl dX9_readsMan_75 ?_
      have hPc := hP.sub (ws' := [oc h 9 [.ref h_s, .ref h_images, .int kept, .ref h_tape, .int typed, .ref h_draft, .int v_12, .ref h_items, .ref h_moved, .ref h_sizes, .ref h_lanes, .ref h_less, .ref h_aside, .ref h_order], ai G h_tape 70 tape]) [1, 2] rfl
      have hDc := hD.sub (ws' := [oc h 9 [.ref h_s, .ref h_images, .int kept, .ref h_tape, .int typed, .ref h_draft, .int v_12, .ref h_items, .ref h_moved, .ref h_sizes, .ref h_lanes, .ref h_less, .ref h_aside, .ref h_order], ai G h_tape 70 tape]) [1, 2] (by decide) rfl
      have hFc := va_free (wc := [oc h 9 [.ref h_s, .ref h_images, .int kept, .ref h_tape, .int typed, .ref h_draft, .int v_12, .ref h_items, .ref h_moved, .ref h_sizes, .ref h_lanes, .ref h_less, .ref h_aside, .ref h_order], ai G h_tape 70 tape]) hD hS hA [1, 2] rfl
      refine va_calli (va_runV (As := [.int v_12]) (rest := []) ⟨hx, hb, hml, hown, hts⟩ (mt_X9_letterAt l G h h_s h_images h_tape h_draft h_items h_moved h_sizes h_lanes h_less h_aside h_order H.size kept typed v_12 tape v_12 _ hw) (cwV 1 hts (lw_V q934 q936 qs37 q65 q937) rfl rfl rfl (by decide +kernel) ⟨Nat.le_of_ble_eq_true rfl, Nat.le_of_ble_eq_true rfl⟩) ⟨fun a U g mk q => by obtain ⟨q0, q1, qP, qK, qD⟩ := q; exact ⟨q0, q1, qP, qK.call, qD⟩, va_recv hK.1 hP (ci := 9) (q0 := 1) rfl rfl, fun U hU hW => ⟨rfl, by rw [hU], by rw [hU]; exact hPc, hK.warm hW, hDc.weaken (fun _ _ _ _ => trivial)⟩⟩ rfl rfl hl.1 rfl (lv_room (Nat.le_of_ble_eq_true rfl)) dX9_readsMan_78 ⟨Nat.le_of_ble_eq_true rfl, Nat.le_of_ble_eq_true rfl⟩) hS (fun q _ h => hFc q h) hFc (fun r_13 _ t H1 locs ht hvm hw hB hz1 hk1 hS => ?_)
      obtain ⟨hP1, hD1⟩ := hB
      rw [ht] at hP1
      obtain ⟨hP, hD⟩ := va_join (wr := [ai G h_draft 40 draft]) (w1 := [oc h 9 [.ref h_s, .ref h_images, .int kept, .ref h_tape, .int typed, .ref h_draft, .int v_12, .ref h_items, .ref h_moved, .ref h_sizes, .ref h_lanes, .ref h_less, .ref h_aside, .ref h_order], ai G h_tape 70 tape]) hP hD [1, 2] [0] rfl rfl (by decide) (by decide) hk1 hFc hP1 hD1
      clear hPc hDc hFc hP1 hD1 hz1 hk1 hvm
      generalize H1 = H at hP hS ⊢
      have hP : va_P G.1 gCl [ai G h_draft 40 draft, oc h 9 [.ref h_s, .ref h_images, .int kept, .ref h_tape, .int typed, .ref h_draft, .int v_12, .ref h_items, .ref h_moved, .ref h_sizes, .ref h_lanes, .ref h_less, .ref h_aside, .ref h_order], ai G h_tape 70 tape] H := hP
      have hD : va_D A [ai G h_draft 40 draft, oc h 9 [.ref h_s, .ref h_images, .int kept, .ref h_tape, .int typed, .ref h_draft, .int v_12, .ref h_items, .ref h_moved, .ref h_sizes, .ref h_lanes, .ref h_less, .ref h_aside, .ref h_order], ai G h_tape 70 tape] := hD
      have hPc := hP.sub (ws' := []) [] rfl
      have hDc := hD.sub (ws' := []) [] (by decide) rfl
      have hFc := va_free (wc := []) hD hS hA [] rfl
      refine va_calli (va_runS (As := [.int r_13]) (rest := []) ⟨hx, hb, hml, hown, hts⟩ (mt_X9_isDigit l G  H.size  r_13 _ hw) (va_cwS 1 hts (lw_S q941 q942 q65 q943) rfl rfl rfl (by decide +kernel) ⟨Nat.le_of_ble_eq_true rfl, Nat.le_of_ble_eq_true rfl⟩) ⟨fun a U g mk q => by obtain ⟨q0, q1, qP, qK, qD⟩ := q; exact ⟨q0, q1, qP, qK.call, qD⟩, fun U hU hW => ⟨rfl, by rw [hU], by rw [hU]; exact hPc, hK.warm hW, hDc.weaken (fun _ _ _ _ => trivial)⟩⟩ rfl rfl hl.1 rfl (lv_room (Nat.le_of_ble_eq_true rfl)) dX9_readsMan_81 ⟨Nat.le_of_ble_eq_true rfl, Nat.le_of_ble_eq_true rfl⟩) hS (fun q _ h => hFc q h) hFc (fun r_14 _ t H1 locs ht hvm hw hB hz1 hk1 hS => ?_)
      obtain ⟨hP1, hD1⟩ := hB
      rw [ht] at hP1
      obtain ⟨hP, hD⟩ := va_join (wr := [ai G h_draft 40 draft, oc h 9 [.ref h_s, .ref h_images, .int kept, .ref h_tape, .int typed, .ref h_draft, .int v_12, .ref h_items, .ref h_moved, .ref h_sizes, .ref h_lanes, .ref h_less, .ref h_aside, .ref h_order], ai G h_tape 70 tape]) (w1 := []) hP hD [] [0, 1, 2] rfl rfl (by decide) (by decide) hk1 hFc hP1 hD1
      clear hPc hDc hFc hP1 hD1 hz1 hk1 hvm
      generalize H1 = H at hP hS ⊢
      have hP : va_P G.1 gCl [ai G h_draft 40 draft, oc h 9 [.ref h_s, .ref h_images, .int kept, .ref h_tape, .int typed, .ref h_draft, .int v_12, .ref h_items, .ref h_moved, .ref h_sizes, .ref h_lanes, .ref h_less, .ref h_aside, .ref h_order], ai G h_tape 70 tape] H := hP
      have hD : va_D A [ai G h_draft 40 draft, oc h 9 [.ref h_s, .ref h_images, .int kept, .ref h_tape, .int typed, .ref h_draft, .int v_12, .ref h_items, .ref h_moved, .ref h_sizes, .ref h_lanes, .ref h_less, .ref h_aside, .ref h_order], ai G h_tape 70 tape] := hD
      refine lv_if_eq (tgt := 117) hx hb dX9_readsMan_84 (by decide) (fun c_15 => ?_) (fun c_15 => ?_)
      · replace hw := hw.1 c_15
        exact wk_X9_readsMan_117 h h_s h_images h_tape h_draft h_items h_moved h_sizes h_lanes h_less h_aside h_order kept typed tape p1  Q  C  v_12 draft r_3 u_2 u_7 v_11 H locs (hP.sub [1, 2, 0] rfl) (hD.sub [1, 2, 0] (by decide) rfl) hS ls (lv_sub hl [4, 5, 3, 2, 1, 0] rfl) hw
      · replace hw := hw.2 c_15
        refine lv_bipush (v := (10 : Int32)) hx hb dX9_readsMan_87 (by decide) ?_
        refine lv_iload hx hb dX9_readsMan_89 (lv_at hl 0 rfl) ?_
        refine lv_imul hx hb dX9_readsMan_91 ?_
        refine lv_aload_n hx hb dX9_readsMan_92 rfl (lv_at hl 4 rfl) ?_
        refine va_get (D := G.1) (ci := 9) (v := .ref h_tape) (C := RX9) (T := TX9) (N := 14) hx hb hts in_X9 hown hK.1 hP 1 rfl rfl 3 (by decide) (hts _ q820) (fun _ h9 => h9) rfl dX9_readsMan_93 ?_
        refine lv_aload_n hx hb dX9_readsMan_96 rfl (lv_at hl 4 rfl) ?_
        refine va_get (D := G.1) (ci := 9) (v := .int v_12) (C := RX9) (T := TX9) (N := 14) hx hb hts in_X9 hown hK.1 hP 1 rfl rfl 6 (by decide) (hts _ q823) (fun _ h9 => h9) rfl dX9_readsMan_97 ?_
        obtain ⟨i_16, hw⟩ := hw
        refine z_iald hx hb hK.1 hP 2 0 rfl rfl i_16 dX9_readsMan_100 (k := v_12.toNatClampNeg) rfl ?_
        refine lv_iadd hx hb dX9_readsMan_101 ?_
        refine lv_bipush (v := (48 : Int32)) hx hb dX9_readsMan_102 (by decide) ?_
        refine lv_isub hx hb dX9_readsMan_104 ?_
        refine lv_topi (fun v_17 ev_17 => ?_)
        replace hw := hw v_17 ev_17
        refine lv_istore (lv' := [(5, .int v_17), (4, .int u_7), (3, .int u_2), (2, .int r_3), (0, .ref h), (1, .int p1)]) hx hb dX9_readsMan_105 hl (by decide) rfl (fun ls hl => ?_)
        refine lv_aload_n hx hb dX9_readsMan_107 rfl (lv_at hl 4 rfl) ?_
        refine lv_dup hx hb dX9_readsMan_108 rfl ?_
        refine va_get (D := G.1) (ci := 9) (v := .int v_12) (C := RX9) (T := TX9) (N := 14) hx hb hts in_X9 hown hK.1 hP 1 rfl rfl 6 (by decide) (hts _ q823) (fun _ h9 => h9) rfl dX9_readsMan_109 ?_
        refine lv_iconst (v := (1 : Int32)) hx hb dX9_readsMan_112 (by decide) ?_
        refine lv_iadd hx hb dX9_readsMan_113 ?_
        refine lv_topi (fun v_18 ev_18 => ?_)
        replace hw := hw v_18 ev_18
        refine va_put (D := G.1) (ci := 9) (v := .int v_18) (ty := .int) (C := RX9) (T := TX9) (N := 14) hx hb hts in_X9 tyX9 tyX9_ok nmX9 hown hK.1 hP hD hS 1 rfl rfl 6 (by decide) (hts _ q823) (fun _ h9 => h9) rfl (by decide +kernel) rfl rfl (Nat.le_of_ble_eq_true rfl) dX9_readsMan_114 (fun H locs hP hD hS => ?_)
        have hP : va_P G.1 gCl [ai G h_draft 40 draft, oc h 9 [.ref h_s, .ref h_images, .int kept, .ref h_tape, .int typed, .ref h_draft, .int v_18, .ref h_items, .ref h_moved, .ref h_sizes, .ref h_lanes, .ref h_less, .ref h_aside, .ref h_order], ai G h_tape 70 tape] H := hP
        have hD : va_D A [ai G h_draft 40 draft, oc h 9 [.ref h_s, .ref h_images, .int kept, .ref h_tape, .int typed, .ref h_draft, .int v_18, .ref h_items, .ref h_moved, .ref h_sizes, .ref h_lanes, .ref h_less, .ref h_aside, .ref h_order], ai G h_tape 70 tape] := hD
        exact wk_X9_readsMan_117 h h_s h_images h_tape h_draft h_items h_moved h_sizes h_lanes h_less h_aside h_order kept typed tape p1  Q  C  v_18 draft r_3 u_2 u_7 v_17 H locs (hP.sub [1, 2, 0] rfl) (hD.sub [1, 2, 0] (by decide) rfl) hS ls (lv_sub hl [4, 5, 3, 2, 1, 0] rfl) hw
    · replace hw := hw.2 c_9
      refine lv_iconst (v := (0 : Int32)) hx hb dX9_readsMan_41 (by decide) ?_
      have hP9 := hP.sub (ws' := [oc h 9 [.ref h_s, .ref h_images, .int kept, .ref h_tape, .int typed, .ref h_draft, .int u_7, .ref h_items, .ref h_moved, .ref h_sizes, .ref h_lanes, .ref h_less, .ref h_aside, .ref h_order], ai G h_tape 70 tape, ai G h_draft 40 draft]) [1, 2, 0] rfl
      have hD9 := hD.sub (ws' := [oc h 9 [.ref h_s, .ref h_images, .int kept, .ref h_tape, .int typed, .ref h_draft, .int u_7, .ref h_items, .ref h_moved, .ref h_sizes, .ref h_lanes, .ref h_less, .ref h_aside, .ref h_order], ai G h_tape 70 tape, ai G h_draft 40 draft]) [1, 2, 0] (by decide) rfl
      exact W.zret (v := (0 : Int32)) hx hb hr rfl (fun t ht hW => ⟨⟨(0 : Int32), (u_7, draft), rfl, hw, by rw [ht]; exact hP9, hD9⟩, hS.F ht⟩) hS.2.2 dX9_readsMan_42
  · replace hw := hw.2 c_4
    refine lv_iconst (v := (0 : Int32)) hx hb dX9_readsMan_19 (by decide) ?_
    have hP9 := hP.sub (ws' := [oc h 9 [.ref h_s, .ref h_images, .int kept, .ref h_tape, .int typed, .ref h_draft, .int u_2, .ref h_items, .ref h_moved, .ref h_sizes, .ref h_lanes, .ref h_less, .ref h_aside, .ref h_order], ai G h_tape 70 tape, ai G h_draft 40 draft]) [1, 2, 0] rfl
    have hD9 := hD.sub (ws' := [oc h 9 [.ref h_s, .ref h_images, .int kept, .ref h_tape, .int typed, .ref h_draft, .int u_2, .ref h_items, .ref h_moved, .ref h_sizes, .ref h_lanes, .ref h_less, .ref h_aside, .ref h_order], ai G h_tape 70 tape, ai G h_draft 40 draft]) [1, 2, 0] (by decide) rfl
    exact W.zret (v := (0 : Int32)) hx hb hr rfl (fun t ht hW => ⟨⟨(0 : Int32), (u_2, draft), rfl, hw, by rw [ht]; exact hP9, hD9⟩, hS.F ht⟩) hS.2.2 dX9_readsMan_20
/-! BattleBenchModel.readsAll()I -/
def wp_X9_readsAll_7 (typed : Int32) (tape : Nat → Int32) (Q : Int32 → (Int32 × (Nat → Int32)) → Prop)  : Nat → Int32 → (Nat → Int32) → Int32 → Prop
  | 0, _, _, _ => False
  | n + 1, atv, draft, x1 =>
    ((((6 : Int32) ≤ x1) → Q x1 (atv, draft)) ∧ (¬ ((6 : Int32) ≤ x1) → wp_X9_readsMan typed atv tape draft x1 (fun r_2 u_3 => ((¬ (r_2 = 0) → wp_X9_skips typed u_3.1 tape  (fun r_5 u_6 => (((0 ≤ r_5) → ((¬ (r_5 = (44 : Int32)) → Q (-1 : Int32) (u_6, u_3.2)) ∧ ((r_5 = (44 : Int32)) → ((¬ ((x1 + (1 : Int32)) = (6 : Int32)) → (∀ v_10 : Int32, v_10 = (u_6 + (1 : Int32)) → wp_X9_readsAll_7 typed tape Q  n v_10 u_3.2 (x1 + (1 : Int32)))) ∧ (((x1 + (1 : Int32)) = (6 : Int32)) → Q (-1 : Int32) (u_6, u_3.2)))))) ∧ (¬ (0 ≤ r_5) → Q (x1 + (1 : Int32)) (u_6, u_3.2))))) ∧ ((r_2 = 0) → Q (-1 : Int32) (u_3.1, u_3.2))))))
set_option maxHeartbeats 4000000 in
theorem wk_X9_readsAll_7 {p : Program} {l : Launch} {e : Env} {s : State} {m : MethodId} {below : List Frame} {meth : Method} {c : Code} {args : Array Value} {G : GT} {A : Nat → Prop} (h h_s h_images h_tape h_draft h_items h_moved h_sizes h_lanes h_less h_aside h_order : Nat) (kept : Int32) (typed : Int32) (tape : Nat → Int32) (Q : Int32 → (Int32 × (Nat → Int32)) → Prop)  (C : Cx p s m meth c cX9_readsAll 3 (some .int) RX9 args G A)  :
    ∀ (n : Nat), ∀  (atv : Int32) (draft : Nat → Int32) (x1 : Int32) (H : Heap) (locs : List Loc), va_P G.1 gCl [oc h 9 [.ref h_s, .ref h_images, .int kept, .ref h_tape, .int typed, .ref h_draft, .int atv, .ref h_items, .ref h_moved, .ref h_sizes, .ref h_lanes, .ref h_less, .ref h_aside, .ref h_order], ai G h_tape 70 tape, ai G h_draft 40 draft] H → va_D A [oc h 9 [.ref h_s, .ref h_images, .int kept, .ref h_tape, .int typed, .ref h_draft, .int atv, .ref h_items, .ref h_moved, .ref h_sizes, .ref h_lanes, .ref h_less, .ref h_aside, .ref h_order], ai G h_tape 70 tape, ai G h_draft 40 draft] → va_S A s.heap H locs → ∀ (ls : Array Slot), lv_has ls 3 [(0, .ref h), (1, .int x1)] → wp_X9_readsAll_7 typed tape Q  n atv draft x1 → W p l e ({ frames := 3, cells := 0, slots := 0, locals := 69 } : Room) s m args below meth c H locs 0 0 (MQ below (va_Qi (fun (r : Int32) (u : Int32 × (Nat → Int32)) => Q r u) (fun u t => va_P G.1 gCl [oc h 9 [.ref h_s, .ref h_images, .int kept, .ref h_tape, .int typed, .ref h_draft, .int u.1, .ref h_items, .ref h_moved, .ref h_sizes, .ref h_lanes, .ref h_less, .ref h_aside, .ref h_order], ai G h_tape 70 tape, ai G h_draft 40 u.2] t.heap ∧ va_D A [oc h 9 [.ref h_s, .ref h_images, .int kept, .ref h_tape, .int typed, .ref h_draft, .int u.1, .ref h_items, .ref h_moved, .ref h_sizes, .ref h_lanes, .ref h_less, .ref h_aside, .ref h_order], ai G h_tape 70 tape, ai G h_draft 40 u.2]) A) args s 0 0 A) (F0 m 7 ls []) := by
  have C9 := C
  obtain ⟨hx, hb, hr, hlocks, hml, hown, hts, hK, hA⟩ := C9
  intro n
  induction n with
  | zero => intro atv draft x1 H locs hP hD hS ls hl hw; exact False.elim hw
  | succ n ih =>
    intro atv draft x1 H locs hP hD hS ls hl hw
    unfold wp_X9_readsAll_7 at hw
    refine lv_iload_n hx hb dX9_readsAll_7 rfl (lv_at hl 1 rfl) ?_
    refine lv_bipush (v := (6 : Int32)) hx hb dX9_readsAll_8 (by decide) ?_
    refine lv_icmp_ge (tgt := 64) hx hb dX9_readsAll_10 (by decide) (fun c_1 => ?_) (fun c_1 => ?_)
    · replace hw := hw.1 c_1
      refine lv_iload_n hx hb dX9_readsAll_64 rfl (lv_at hl 1 rfl) ?_
      have hP9 := hP
      have hD9 := hD
      exact W.iret (v := x1) hx hb hr (fun t ht hW => ⟨⟨x1, (atv, draft), rfl, hw, by rw [ht]; exact hP9, hD9⟩, hS.F ht⟩) hS.2.2 dX9_readsAll_65
    · replace hw := hw.2 c_1
      refine lv_aload_n hx hb dX9_readsAll_13 rfl (lv_at hl 0 rfl) ?_
      refine lv_iload_n hx hb dX9_readsAll_14 rfl (lv_at hl 1 rfl) ?_
      have hPc := hP.sub (ws' := [oc h 9 [.ref h_s, .ref h_images, .int kept, .ref h_tape, .int typed, .ref h_draft, .int atv, .ref h_items, .ref h_moved, .ref h_sizes, .ref h_lanes, .ref h_less, .ref h_aside, .ref h_order], ai G h_tape 70 tape, ai G h_draft 40 draft]) [0, 1, 2] rfl
      have hDc := hD.sub (ws' := [oc h 9 [.ref h_s, .ref h_images, .int kept, .ref h_tape, .int typed, .ref h_draft, .int atv, .ref h_items, .ref h_moved, .ref h_sizes, .ref h_lanes, .ref h_less, .ref h_aside, .ref h_order], ai G h_tape 70 tape, ai G h_draft 40 draft]) [0, 1, 2] (by decide) rfl
      have hFc := va_free (wc := [oc h 9 [.ref h_s, .ref h_images, .int kept, .ref h_tape, .int typed, .ref h_draft, .int atv, .ref h_items, .ref h_moved, .ref h_sizes, .ref h_lanes, .ref h_less, .ref h_aside, .ref h_order], ai G h_tape 70 tape, ai G h_draft 40 draft]) hD hS hA [0, 1, 2] rfl
      refine va_calli (va_runV (As := [.int x1]) (rest := []) ⟨hx, hb, hml, hown, hts⟩ (mt_X9_readsMan l G h h_s h_images h_tape h_draft h_items h_moved h_sizes h_lanes h_less h_aside h_order H.size kept typed atv tape draft x1 _ hw) (cwV 1 hts (lw_V q926 q928 qs35 q65 q929) rfl rfl rfl (by decide +kernel) ⟨Nat.le_of_ble_eq_true rfl, Nat.le_of_ble_eq_true rfl⟩) ⟨fun a U g mk q => by obtain ⟨q0, q1, qP, qK, qD⟩ := q; exact ⟨q0, q1, qP, qK.call, qD⟩, va_recv hK.1 hP (ci := 9) (q0 := 0) rfl rfl, fun U hU hW => ⟨rfl, by rw [hU], by rw [hU]; exact hPc, hK.warm hW, hDc.weaken (fun _ _ _ _ => trivial)⟩⟩ rfl rfl hl.1 rfl (lv_room (Nat.le_of_ble_eq_true rfl)) dX9_readsAll_15 ⟨Nat.le_of_ble_eq_true rfl, Nat.le_of_ble_eq_true rfl⟩) hS (fun q _ h => hFc q h) hFc (fun r_2 u_3 t H1 locs ht hvm hw hB hz1 hk1 hS => ?_)
      obtain ⟨hP1, hD1⟩ := hB
      rw [ht] at hP1
      obtain ⟨hP, hD⟩ := va_join (wr := []) (w1 := [oc h 9 [.ref h_s, .ref h_images, .int kept, .ref h_tape, .int typed, .ref h_draft, .int u_3.1, .ref h_items, .ref h_moved, .ref h_sizes, .ref h_lanes, .ref h_less, .ref h_aside, .ref h_order], ai G h_tape 70 tape, ai G h_draft 40 u_3.2]) hP hD [0, 1, 2] [] rfl rfl (by decide) (by decide) hk1 hFc hP1 hD1
      clear hPc hDc hFc hP1 hD1 hz1 hk1 hvm
      generalize H1 = H at hP hS ⊢
      have hP : va_P G.1 gCl [oc h 9 [.ref h_s, .ref h_images, .int kept, .ref h_tape, .int typed, .ref h_draft, .int u_3.1, .ref h_items, .ref h_moved, .ref h_sizes, .ref h_lanes, .ref h_less, .ref h_aside, .ref h_order], ai G h_tape 70 tape, ai G h_draft 40 u_3.2] H := hP
      have hD : va_D A [oc h 9 [.ref h_s, .ref h_images, .int kept, .ref h_tape, .int typed, .ref h_draft, .int u_3.1, .ref h_items, .ref h_moved, .ref h_sizes, .ref h_lanes, .ref h_less, .ref h_aside, .ref h_order], ai G h_tape 70 tape, ai G h_draft 40 u_3.2] := hD
      refine lv_if_ne (tgt := 23) hx hb dX9_readsAll_18 (by decide) (fun c_4 => ?_) (fun c_4 => ?_)
      · replace hw := hw.1 c_4
        refine lv_iinc (v := (x1 + (1 : Int32))) (lv' := [(1, .int (x1 + (1 : Int32))), (0, .ref h)]) hx hb dX9_readsAll_23 hl (k := 1) rfl rfl (by decide) rfl (fun ls hl => ?_)
        refine lv_aload_n hx hb dX9_readsAll_26 rfl (lv_at hl 1 rfl) ?_
        have hPc := hP.sub (ws' := [oc h 9 [.ref h_s, .ref h_images, .int kept, .ref h_tape, .int typed, .ref h_draft, .int u_3.1, .ref h_items, .ref h_moved, .ref h_sizes, .ref h_lanes, .ref h_less, .ref h_aside, .ref h_order], ai G h_tape 70 tape]) [0, 1] rfl
        have hDc := hD.sub (ws' := [oc h 9 [.ref h_s, .ref h_images, .int kept, .ref h_tape, .int typed, .ref h_draft, .int u_3.1, .ref h_items, .ref h_moved, .ref h_sizes, .ref h_lanes, .ref h_less, .ref h_aside, .ref h_order], ai G h_tape 70 tape]) [0, 1] (by decide) rfl
        have hFc := va_free (wc := [oc h 9 [.ref h_s, .ref h_images, .int kept, .ref h_tape, .int typed, .ref h_draft, .int u_3.1, .ref h_items, .ref h_moved, .ref h_sizes, .ref h_lanes, .ref h_less, .ref h_aside, .ref h_order], ai G h_tape 70 tape]) hD hS hA [0, 1] rfl
        refine va_calli (va_runV (As := []) (rest := []) ⟨hx, hb, hml, hown, hts⟩ (mt_X9_skips l G h h_s h_images h_tape h_draft h_items h_moved h_sizes h_lanes h_less h_aside h_order H.size kept typed u_3.1 tape  _ hw) (cwV 0 hts (lw_V q930 q932 qs36 q65 q933) rfl rfl rfl (by decide +kernel) ⟨Nat.le_of_ble_eq_true rfl, Nat.le_of_ble_eq_true rfl⟩) ⟨fun a U g mk q => by obtain ⟨q0, q1, qP, qK, qD⟩ := q; exact ⟨q0, q1, qP, qK.call, qD⟩, va_recv hK.1 hP (ci := 9) (q0 := 0) rfl rfl, fun U hU hW => ⟨rfl, by rw [hU], by rw [hU]; exact hPc, hK.warm hW, hDc.weaken (fun _ _ _ _ => trivial)⟩⟩ rfl rfl hl.1 rfl (lv_room (Nat.le_of_ble_eq_true rfl)) dX9_readsAll_27 ⟨Nat.le_of_ble_eq_true rfl, Nat.le_of_ble_eq_true rfl⟩) hS (fun q _ h => hFc q h) hFc (fun r_5 u_6 t H1 locs ht hvm hw hB hz1 hk1 hS => ?_)
        obtain ⟨hP1, hD1⟩ := hB
        rw [ht] at hP1
        obtain ⟨hP, hD⟩ := va_join (wr := [ai G h_draft 40 u_3.2]) (w1 := [oc h 9 [.ref h_s, .ref h_images, .int kept, .ref h_tape, .int typed, .ref h_draft, .int u_6, .ref h_items, .ref h_moved, .ref h_sizes, .ref h_lanes, .ref h_less, .ref h_aside, .ref h_order], ai G h_tape 70 tape]) hP hD [0, 1] [2] rfl rfl (by decide) (by decide) hk1 hFc hP1 hD1
        clear hPc hDc hFc hP1 hD1 hz1 hk1 hvm
        generalize H1 = H at hP hS ⊢
        have hP : va_P G.1 gCl [ai G h_draft 40 u_3.2, oc h 9 [.ref h_s, .ref h_images, .int kept, .ref h_tape, .int typed, .ref h_draft, .int u_6, .ref h_items, .ref h_moved, .ref h_sizes, .ref h_lanes, .ref h_less, .ref h_aside, .ref h_order], ai G h_tape 70 tape] H := hP
        have hD : va_D A [ai G h_draft 40 u_3.2, oc h 9 [.ref h_s, .ref h_images, .int kept, .ref h_tape, .int typed, .ref h_draft, .int u_6, .ref h_items, .ref h_moved, .ref h_sizes, .ref h_lanes, .ref h_less, .ref h_aside, .ref h_order], ai G h_tape 70 tape] := hD
        refine lv_istore_n (lv' := [(2, .int r_5), (1, .int (x1 + (1 : Int32))), (0, .ref h)]) hx hb dX9_readsAll_30 rfl hl (by decide) rfl (fun ls hl => ?_)
        refine lv_iload_n hx hb dX9_readsAll_31 rfl (lv_at hl 0 rfl) ?_
        refine lv_if_ge (tgt := 37) hx hb dX9_readsAll_32 (by decide) (fun c_7 => ?_) (fun c_7 => ?_)
        · replace hw := hw.1 c_7
          refine lv_iload_n hx hb dX9_readsAll_37 rfl (lv_at hl 0 rfl) ?_
          refine lv_bipush (v := (44 : Int32)) hx hb dX9_readsAll_38 (by decide) ?_
          refine lv_icmp_ne (tgt := 49) hx hb dX9_readsAll_40 (by decide) (fun c_8 => ?_) (fun c_8 => ?_)
          · replace hw := hw.1 c_8
            refine lv_iconst (v := (-1 : Int32)) hx hb dX9_readsAll_49 (by decide) ?_
            have hP9 := hP.sub (ws' := [oc h 9 [.ref h_s, .ref h_images, .int kept, .ref h_tape, .int typed, .ref h_draft, .int u_6, .ref h_items, .ref h_moved, .ref h_sizes, .ref h_lanes, .ref h_less, .ref h_aside, .ref h_order], ai G h_tape 70 tape, ai G h_draft 40 u_3.2]) [1, 2, 0] rfl
            have hD9 := hD.sub (ws' := [oc h 9 [.ref h_s, .ref h_images, .int kept, .ref h_tape, .int typed, .ref h_draft, .int u_6, .ref h_items, .ref h_moved, .ref h_sizes, .ref h_lanes, .ref h_less, .ref h_aside, .ref h_order], ai G h_tape 70 tape, ai G h_draft 40 u_3.2]) [1, 2, 0] (by decide) rfl
            exact W.iret (v := (-1 : Int32)) hx hb hr (fun t ht hW => ⟨⟨(-1 : Int32), (u_6, u_3.2), rfl, hw, by rw [ht]; exact hP9, hD9⟩, hS.F ht⟩) hS.2.2 dX9_readsAll_50
          · replace hw := hw.2 c_8
            refine lv_iload_n hx hb dX9_readsAll_43 rfl (lv_at hl 1 rfl) ?_
            refine lv_bipush (v := (6 : Int32)) hx hb dX9_readsAll_44 (by decide) ?_
            refine lv_icmp_ne (tgt := 51) hx hb dX9_readsAll_46 (by decide) (fun c_9 => ?_) (fun c_9 => ?_)
            · replace hw := hw.1 c_9
              refine lv_aload_n hx hb dX9_readsAll_51 rfl (lv_at hl 2 rfl) ?_
              refine lv_dup hx hb dX9_readsAll_52 rfl ?_
              refine va_get (D := G.1) (ci := 9) (v := .int u_6) (C := RX9) (T := TX9) (N := 14) hx hb hts in_X9 hown hK.1 hP 1 rfl rfl 6 (by decide) (hts _ q823) (fun _ h9 => h9) rfl dX9_readsAll_53 ?_
              refine lv_iconst (v := (1 : Int32)) hx hb dX9_readsAll_56 (by decide) ?_
              refine lv_iadd hx hb dX9_readsAll_57 ?_
              refine lv_topi (fun v_10 ev_10 => ?_)
              replace hw := hw v_10 ev_10
              refine va_put (D := G.1) (ci := 9) (v := .int v_10) (ty := .int) (C := RX9) (T := TX9) (N := 14) hx hb hts in_X9 tyX9 tyX9_ok nmX9 hown hK.1 hP hD hS 1 rfl rfl 6 (by decide) (hts _ q823) (fun _ h9 => h9) rfl (by decide +kernel) rfl rfl (Nat.le_of_ble_eq_true rfl) dX9_readsAll_58 (fun H locs hP hD hS => ?_)
              have hP : va_P G.1 gCl [ai G h_draft 40 u_3.2, oc h 9 [.ref h_s, .ref h_images, .int kept, .ref h_tape, .int typed, .ref h_draft, .int v_10, .ref h_items, .ref h_moved, .ref h_sizes, .ref h_lanes, .ref h_less, .ref h_aside, .ref h_order], ai G h_tape 70 tape] H := hP
              have hD : va_D A [ai G h_draft 40 u_3.2, oc h 9 [.ref h_s, .ref h_images, .int kept, .ref h_tape, .int typed, .ref h_draft, .int v_10, .ref h_items, .ref h_moved, .ref h_sizes, .ref h_lanes, .ref h_less, .ref h_aside, .ref h_order], ai G h_tape 70 tape] := hD
              refine lv_goto (tgt := 7) hx hb dX9_readsAll_61 (by decide) ?_
              exact ih v_10 u_3.2 (x1 + (1 : Int32)) H locs (hP.sub [1, 2, 0] rfl) (hD.sub [1, 2, 0] (by decide) rfl) hS ls (lv_sub hl [2, 1] rfl) hw
            · replace hw := hw.2 c_9
              refine lv_iconst (v := (-1 : Int32)) hx hb dX9_readsAll_49 (by decide) ?_
              have hP9 := hP.sub (ws' := [oc h 9 [.ref h_s, .ref h_images, .int kept, .ref h_tape, .int typed, .ref h_draft, .int u_6, .ref h_items, .ref h_moved, .ref h_sizes, .ref h_lanes, .ref h_less, .ref h_aside, .ref h_order], ai G h_tape 70 tape, ai G h_draft 40 u_3.2]) [1, 2, 0] rfl
              have hD9 := hD.sub (ws' := [oc h 9 [.ref h_s, .ref h_images, .int kept, .ref h_tape, .int typed, .ref h_draft, .int u_6, .ref h_items, .ref h_moved, .ref h_sizes, .ref h_lanes, .ref h_less, .ref h_aside, .ref h_order], ai G h_tape 70 tape, ai G h_draft 40 u_3.2]) [1, 2, 0] (by decide) rfl
              exact W.iret (v := (-1 : Int32)) hx hb hr (fun t ht hW => ⟨⟨(-1 : Int32), (u_6, u_3.2), rfl, hw, by rw [ht]; exact hP9, hD9⟩, hS.F ht⟩) hS.2.2 dX9_readsAll_50
        · replace hw := hw.2 c_7
          refine lv_iload_n hx hb dX9_readsAll_35 rfl (lv_at hl 1 rfl) ?_
          have hP9 := hP.sub (ws' := [oc h 9 [.ref h_s, .ref h_images, .int kept, .ref h_tape, .int typed, .ref h_draft, .int u_6, .ref h_items, .ref h_moved, .ref h_sizes, .ref h_lanes, .ref h_less, .ref h_aside, .ref h_order], ai G h_tape 70 tape, ai G h_draft 40 u_3.2]) [1, 2, 0] rfl
          have hD9 := hD.sub (ws' := [oc h 9 [.ref h_s, .ref h_images, .int kept, .ref h_tape, .int typed, .ref h_draft, .int u_6, .ref h_items, .ref h_moved, .ref h_sizes, .ref h_lanes, .ref h_less, .ref h_aside, .ref h_order], ai G h_tape 70 tape, ai G h_draft 40 u_3.2]) [1, 2, 0] (by decide) rfl
          exact W.iret (v := (x1 + (1 : Int32))) hx hb hr (fun t ht hW => ⟨⟨(x1 + (1 : Int32)), (u_6, u_3.2), rfl, hw, by rw [ht]; exact hP9, hD9⟩, hS.F ht⟩) hS.2.2 dX9_readsAll_36
      · replace hw := hw.2 c_4
        refine lv_iconst (v := (-1 : Int32)) hx hb dX9_readsAll_21 (by decide) ?_
        have hP9 := hP
        have hD9 := hD
        exact W.iret (v := (-1 : Int32)) hx hb hr (fun t ht hW => ⟨⟨(-1 : Int32), (u_3.1, u_3.2), rfl, hw, by rw [ht]; exact hP9, hD9⟩, hS.F ht⟩) hS.2.2 dX9_readsAll_22
def wp_X9_readsAll (typed : Int32) (atv : Int32) (tape : Nat → Int32) (draft : Nat → Int32) (Q : Int32 → (Int32 × (Nat → Int32)) → Prop) : Prop :=
  (∃ j_ : Nat, wp_X9_readsAll_7 typed tape Q  j_ (0 : Int32) draft (0 : Int32))
set_option maxHeartbeats 4000000 in
theorem mt_X9_readsAll (l : Launch) (G : GT) (h h_s h_images h_tape h_draft h_items h_moved h_sizes h_lanes h_less h_aside h_order : Nat) (sz : Nat) (kept : Int32) (typed : Int32) (atv : Int32) (tape : Nat → Int32) (draft : Nat → Int32) (Q : Int32 → (Int32 × (Nat → Int32)) → Prop) (hw : wp_X9_readsAll typed atv tape draft Q) : Met l yX9_readsAll (ws_ yX9_readsAll cX9_readsAll 3 (some .int)) ({ frames := 3, cells := 0, slots := 0, locals := 69 } : Room) (va_Pc [.ref h] (fun U => U.heap.size = sz ∧ va_P G.1 gCl [oc h 9 [.ref h_s, .ref h_images, .int kept, .ref h_tape, .int typed, .ref h_draft, .int atv, .ref h_items, .ref h_moved, .ref h_sizes, .ref h_lanes, .ref h_less, .ref h_aside, .ref h_order], ai G h_tape 70 tape, ai G h_draft 40 draft] U.heap ∧ gK G U ∧ va_D (fun _ => True) [oc h 9 [.ref h_s, .ref h_images, .int kept, .ref h_tape, .int typed, .ref h_draft, .int atv, .ref h_items, .ref h_moved, .ref h_sizes, .ref h_lanes, .ref h_less, .ref h_aside, .ref h_order], ai G h_tape 70 tape, ai G h_draft 40 draft])) ((fun A => (va_Qi (fun (r : Int32) (u : Int32 × (Nat → Int32)) => Q r u) (fun u t => va_P G.1 gCl [oc h 9 [.ref h_s, .ref h_images, .int kept, .ref h_tape, .int typed, .ref h_draft, .int u.1, .ref h_items, .ref h_moved, .ref h_sizes, .ref h_lanes, .ref h_less, .ref h_aside, .ref h_order], ai G h_tape 70 tape, ai G h_draft 40 u.2] t.heap ∧ va_D A [oc h 9 [.ref h_s, .ref h_images, .int kept, .ref h_tape, .int typed, .ref h_draft, .int u.1, .ref h_items, .ref h_moved, .ref h_sizes, .ref h_lanes, .ref h_less, .ref h_aside, .ref h_order], ai G h_tape 70 tape, ai G h_draft 40 u.2]) A)) (va_A [oc h 9 [.ref h_s, .ref h_images, .int kept, .ref h_tape, .int typed, .ref h_draft, .int atv, .ref h_items, .ref h_moved, .ref h_sizes, .ref h_lanes, .ref h_less, .ref h_aside, .ref h_order], ai G h_tape 70 tape, ai G h_draft 40 draft] sz)) 0 0 (va_A [oc h 9 [.ref h_s, .ref h_images, .int kept, .ref h_tape, .int typed, .ref h_draft, .int atv, .ref h_items, .ref h_moved, .ref h_sizes, .ref h_lanes, .ref h_less, .ref h_aside, .ref h_order], ai G h_tape 70 tape, ai G h_draft 40 draft] sz) := by
  refine Met.ofW (cc := cX9_readsAll) (maxL := 3) (ret := (some .int)) (by decide) rfl ?_
  intro p e s m args below meth c s₁ B hml hv
  obtain ⟨rfl, hsz, hP, hK, hD0⟩ := hv
  have hx := B.exec
  have hb := B.bytes
  have hr := B.returns
  have hts := atoms_spec (ws := (ws_ yX9_readsAll cX9_readsAll 3 (some .int))) B.pre
  have hts : ∀ w ∈ lw_all, w.before _ s = true := fun w h => hts w (List.mem_cons_of_mem _ h)
  have hown : s.vm.findClass RX9 = some m.cls := findClass_of_methodNamed B.named
  have hlocks := B.notSynchronized
  subst hsz
  have hD := hD0.self (sz := s.heap.size)
  generalize hAe : va_A [oc h 9 [.ref h_s, .ref h_images, .int kept, .ref h_tape, .int typed, .ref h_draft, .int atv, .ref h_items, .ref h_moved, .ref h_sizes, .ref h_lanes, .ref h_less, .ref h_aside, .ref h_order], ai G h_tape 70 tape, ai G h_draft 40 draft] s.heap.size = A at hD ⊢
  have hA : ∀ q : Nat, s.heap.size ≤ q → A q := fun q h => by rw [← hAe]; exact Or.inr h
  have hS : va_S A s.heap s.heap [] := va_S.rf
  have C : Cx p s m meth c cX9_readsAll 3 (some .int) RX9 ([.ref h] : List Value).toArray G A := ⟨hx, hb, hr, hlocks, hml, hown, hts, hK, hA⟩
  have hl := lv_entry ([.ref h]) (n := 3) (Nat.le_of_ble_eq_true rfl)
  rw [lg_entry_eq]
  generalize (lg_sl ([.ref h]) ++ List.replicate (3 - (lg_sl ([.ref h])).length) Slot.unset).toArray = ls at hl ⊢
  have hl : lv_has ls 3 [(0, .ref h)] := hl
  unfold wp_X9_readsAll at hw
  refine lv_aload_n hx hb dX9_readsAll_0 rfl (lv_at hl 0 rfl) ?_
  refine lv_iconst (v := (0 : Int32)) hx hb dX9_readsAll_1 (by decide) ?_
  refine va_put (D := G.1) (ci := 9) (v := .int (0 : Int32)) (ty := .int) (C := RX9) (T := TX9) (N := 14) hx hb hts in_X9 tyX9 tyX9_ok nmX9 hown hK.1 hP hD hS 0 rfl rfl 6 (by decide) (hts _ q823) (fun _ h9 => h9) rfl (by decide +kernel) rfl rfl (Nat.le_of_ble_eq_true rfl) dX9_readsAll_2 (fun H locs hP hD hS => ?_)
  have hP : va_P G.1 gCl [oc h 9 [.ref h_s, .ref h_images, .int kept, .ref h_tape, .int typed, .ref h_draft, .int (0 : Int32), .ref h_items, .ref h_moved, .ref h_sizes, .ref h_lanes, .ref h_less, .ref h_aside, .ref h_order], ai G h_tape 70 tape, ai G h_draft 40 draft] H := hP
  have hD : va_D A [oc h 9 [.ref h_s, .ref h_images, .int kept, .ref h_tape, .int typed, .ref h_draft, .int (0 : Int32), .ref h_items, .ref h_moved, .ref h_sizes, .ref h_lanes, .ref h_less, .ref h_aside, .ref h_order], ai G h_tape 70 tape, ai G h_draft 40 draft] := hD
  refine lv_iconst (v := (0 : Int32)) hx hb dX9_readsAll_5 (by decide) ?_
  refine lv_istore_n (lv' := [(1, .int (0 : Int32)), (0, .ref h)]) hx hb dX9_readsAll_6 rfl hl (by decide) rfl (fun ls hl => ?_)
  obtain ⟨j_, hw⟩ := hw
  exact wk_X9_readsAll_7 h h_s h_images h_tape h_draft h_items h_moved h_sizes h_lanes h_less h_aside h_order kept typed tape  Q  C  j_ (0 : Int32) draft (0 : Int32) H locs hP hD hS ls (lv_sub hl [1, 0] rfl) hw
/-! BattleBenchModel.read()I -/
def wp_X9_read_52 (tape : Nat → Int32) (Q : Int32 → (Int32 × Int32 × (Nat → Int32) × (Nat → Int32)) → Prop)  : Nat → Int32 → Int32 → (Nat → Int32) → (Nat → Int32) → Int32 → Int32 → Int32 → Prop
  | 0, _, _, _, _, _, _, _ => False
  | n + 1, typed, atv, sv, draft, x1, x2, x3 =>
    ((((40 : Int32) ≤ x3) → (∀ f_2 : Nat → Int32, f_2 = upd sv 0 x1 → (∀ f_3 : Nat → Int32, f_3 = upd f_2 1 x1 → (∀ f_4 : Nat → Int32, f_4 = upd f_3 3 x2 → (∀ f_5 : Nat → Int32, f_5 = upd f_4 40 (0 : Int32) → Q x1 (typed, atv, f_5, draft)))))) ∧ (¬ ((40 : Int32) ≤ x3) → (vp_in x3 40 ∧ (∀ v_7 : Int32, v_7 = (draft x3.toNatClampNeg) → (vp_in x3 161 ∧ ∀ f_9 : Nat → Int32, f_9 = upd sv x3.toNatClampNeg v_7 → wp_X9_read_52 tape Q  n typed atv f_9 draft x1 x2 (x3 + (1 : Int32)))))))
set_option maxHeartbeats 4000000 in
theorem wk_X9_read_52 {p : Program} {l : Launch} {e : Env} {s : State} {m : MethodId} {below : List Frame} {meth : Method} {c : Code} {args : Array Value} {G : GT} {A : Nat → Prop} (h h_s h_images h_tape h_draft h_items h_moved h_sizes h_lanes h_less h_aside h_order : Nat) (kept : Int32) (tape : Nat → Int32) (Q : Int32 → (Int32 × Int32 × (Nat → Int32) × (Nat → Int32)) → Prop)  (C : Cx p s m meth c cX9_read 4 (some .int) RX9 args G A)  :
    ∀ (n : Nat), ∀  (typed : Int32) (atv : Int32) (sv : Nat → Int32) (draft : Nat → Int32) (x1 : Int32) (x2 : Int32) (x3 : Int32) (H : Heap) (locs : List Loc), va_P G.1 gCl [oc h 9 [.ref h_s, .ref h_images, .int kept, .ref h_tape, .int typed, .ref h_draft, .int atv, .ref h_items, .ref h_moved, .ref h_sizes, .ref h_lanes, .ref h_less, .ref h_aside, .ref h_order], ai G h_s 161 sv, ai G h_tape 70 tape, ai G h_draft 40 draft] H → va_D A [oc h 9 [.ref h_s, .ref h_images, .int kept, .ref h_tape, .int typed, .ref h_draft, .int atv, .ref h_items, .ref h_moved, .ref h_sizes, .ref h_lanes, .ref h_less, .ref h_aside, .ref h_order], ai G h_s 161 sv, ai G h_tape 70 tape, ai G h_draft 40 draft] → va_S A s.heap H locs → ∀ (ls : Array Slot), lv_has ls 4 [(0, .ref h), (1, .int x1), (2, .int x2), (3, .int x3)] → wp_X9_read_52 tape Q  n typed atv sv draft x1 x2 x3 → W p l e ({ frames := 4, cells := 0, slots := 0, locals := 91 } : Room) s m args below meth c H locs 0 0 (MQ below (va_Qi (fun (r : Int32) (u : Int32 × Int32 × (Nat → Int32) × (Nat → Int32)) => Q r u) (fun u t => va_P G.1 gCl [oc h 9 [.ref h_s, .ref h_images, .int kept, .ref h_tape, .int u.1, .ref h_draft, .int u.2.1, .ref h_items, .ref h_moved, .ref h_sizes, .ref h_lanes, .ref h_less, .ref h_aside, .ref h_order], ai G h_s 161 u.2.2.1, ai G h_tape 70 tape, ai G h_draft 40 u.2.2.2] t.heap ∧ va_D A [oc h 9 [.ref h_s, .ref h_images, .int kept, .ref h_tape, .int u.1, .ref h_draft, .int u.2.1, .ref h_items, .ref h_moved, .ref h_sizes, .ref h_lanes, .ref h_less, .ref h_aside, .ref h_order], ai G h_s 161 u.2.2.1, ai G h_tape 70 tape, ai G h_draft 40 u.2.2.2]) A) args s 0 0 A) (F0 m 52 ls []) := by
  have C9 := C
  obtain ⟨hx, hb, hr, hlocks, hml, hown, hts, hK, hA⟩ := C9
  intro n
  induction n with
  | zero => intro typed atv sv draft x1 x2 x3 H locs hP hD hS ls hl hw; exact False.elim hw
  | succ n ih =>
    intro typed atv sv draft x1 x2 x3 H locs hP hD hS ls hl hw
    unfold wp_X9_read_52 at hw
    refine lv_iload_n hx hb dX9_read_52 rfl (lv_at hl 3 rfl) ?_
    refine lv_bipush (v := (40 : Int32)) hx hb dX9_read_53 (by decide) ?_
    refine lv_icmp_ge (tgt := 76) hx hb dX9_read_55 (by decide) (fun c_1 => ?_) (fun c_1 => ?_)
    · replace hw := hw.1 c_1
      refine lv_aload_n hx hb dX9_read_76 rfl (lv_at hl 0 rfl) ?_
      refine va_get (D := G.1) (ci := 9) (v := .ref h_s) (C := RX9) (T := TX9) (N := 14) hx hb hts in_X9 hown hK.1 hP 0 rfl rfl 0 (by decide) (hts _ q817) (fun _ h9 => h9) rfl dX9_read_77 ?_
      refine lv_iconst (v := (0 : Int32)) hx hb dX9_read_80 (by decide) ?_
      refine lv_iload_n hx hb dX9_read_81 rfl (lv_at hl 1 rfl) ?_
      refine z_iast hx hb hK.1 hP hD hS 1 0 rfl rfl (vin_l (by decide +kernel)) dX9_read_82 (k := 0) rfl (fun f_2 ef_2 H locs hP hD hS => ?_)
      replace hw := hw f_2 ef_2
      have hP : va_P G.1 gCl [oc h 9 [.ref h_s, .ref h_images, .int kept, .ref h_tape, .int typed, .ref h_draft, .int atv, .ref h_items, .ref h_moved, .ref h_sizes, .ref h_lanes, .ref h_less, .ref h_aside, .ref h_order], ai G h_s 161 f_2, ai G h_tape 70 tape, ai G h_draft 40 draft] H := hP
      have hD : va_D A [oc h 9 [.ref h_s, .ref h_images, .int kept, .ref h_tape, .int typed, .ref h_draft, .int atv, .ref h_items, .ref h_moved, .ref h_sizes, .ref h_lanes, .ref h_less, .ref h_aside, .ref h_order], ai G h_s 161 f_2, ai G h_tape 70 tape, ai G h_draft 40 draft] := hD
      refine lv_aload_n hx hb dX9_read_83 rfl (lv_at hl 0 rfl) ?_
      refine va_get (D := G.1) (ci := 9) (v := .ref h_s) (C := RX9) (T := TX9) (N := 14) hx hb hts in_X9 hown hK.1 hP 0 rfl rfl 0 (by decide) (hts _ q817) (fun _ h9 => h9) rfl dX9_read_84 ?_
      refine lv_iconst (v := (1 : Int32)) hx hb dX9_read_87 (by decide) ?_
      refine lv_iload_n hx hb dX9_read_88 rfl (lv_at hl 1 rfl) ?_
      refine z_iast hx hb hK.1 hP hD hS 1 0 rfl rfl (vin_l (by decide +kernel)) dX9_read_89 (k := 1) rfl (fun f_3 ef_3 H locs hP hD hS => ?_)
      replace hw := hw f_3 ef_3
      have hP : va_P G.1 gCl [oc h 9 [.ref h_s, .ref h_images, .int kept, .ref h_tape, .int typed, .ref h_draft, .int atv, .ref h_items, .ref h_moved, .ref h_sizes, .ref h_lanes, .ref h_less, .ref h_aside, .ref h_order], ai G h_s 161 f_3, ai G h_tape 70 tape, ai G h_draft 40 draft] H := hP
      have hD : va_D A [oc h 9 [.ref h_s, .ref h_images, .int kept, .ref h_tape, .int typed, .ref h_draft, .int atv, .ref h_items, .ref h_moved, .ref h_sizes, .ref h_lanes, .ref h_less, .ref h_aside, .ref h_order], ai G h_s 161 f_3, ai G h_tape 70 tape, ai G h_draft 40 draft] := hD
      refine lv_aload_n hx hb dX9_read_90 rfl (lv_at hl 0 rfl) ?_
      refine va_get (D := G.1) (ci := 9) (v := .ref h_s) (C := RX9) (T := TX9) (N := 14) hx hb hts in_X9 hown hK.1 hP 0 rfl rfl 0 (by decide) (hts _ q817) (fun _ h9 => h9) rfl dX9_read_91 ?_
      refine lv_iconst (v := (3 : Int32)) hx hb dX9_read_94 (by decide) ?_
      refine lv_iload_n hx hb dX9_read_95 rfl (lv_at hl 2 rfl) ?_
      refine z_iast hx hb hK.1 hP hD hS 1 0 rfl rfl (vin_l (by decide +kernel)) dX9_read_96 (k := 3) rfl (fun f_4 ef_4 H locs hP hD hS => ?_)
      replace hw := hw f_4 ef_4
      have hP : va_P G.1 gCl [oc h 9 [.ref h_s, .ref h_images, .int kept, .ref h_tape, .int typed, .ref h_draft, .int atv, .ref h_items, .ref h_moved, .ref h_sizes, .ref h_lanes, .ref h_less, .ref h_aside, .ref h_order], ai G h_s 161 f_4, ai G h_tape 70 tape, ai G h_draft 40 draft] H := hP
      have hD : va_D A [oc h 9 [.ref h_s, .ref h_images, .int kept, .ref h_tape, .int typed, .ref h_draft, .int atv, .ref h_items, .ref h_moved, .ref h_sizes, .ref h_lanes, .ref h_less, .ref h_aside, .ref h_order], ai G h_s 161 f_4, ai G h_tape 70 tape, ai G h_draft 40 draft] := hD
      refine lv_aload_n hx hb dX9_read_97 rfl (lv_at hl 0 rfl) ?_
      refine va_get (D := G.1) (ci := 9) (v := .ref h_s) (C := RX9) (T := TX9) (N := 14) hx hb hts in_X9 hown hK.1 hP 0 rfl rfl 0 (by decide) (hts _ q817) (fun _ h9 => h9) rfl dX9_read_98 ?_
      refine lv_bipush (v := (40 : Int32)) hx hb dX9_read_101 (by decide) ?_
      refine lv_iconst (v := (0 : Int32)) hx hb dX9_read_103 (by decide) ?_
      refine z_iast hx hb hK.1 hP hD hS 1 0 rfl rfl (vin_l (by decide +kernel)) dX9_read_104 (k := 40) rfl (fun f_5 ef_5 H locs hP hD hS => ?_)
      replace hw := hw f_5 ef_5
      have hP : va_P G.1 gCl [oc h 9 [.ref h_s, .ref h_images, .int kept, .ref h_tape, .int typed, .ref h_draft, .int atv, .ref h_items, .ref h_moved, .ref h_sizes, .ref h_lanes, .ref h_less, .ref h_aside, .ref h_order], ai G h_s 161 f_5, ai G h_tape 70 tape, ai G h_draft 40 draft] H := hP
      have hD : va_D A [oc h 9 [.ref h_s, .ref h_images, .int kept, .ref h_tape, .int typed, .ref h_draft, .int atv, .ref h_items, .ref h_moved, .ref h_sizes, .ref h_lanes, .ref h_less, .ref h_aside, .ref h_order], ai G h_s 161 f_5, ai G h_tape 70 tape, ai G h_draft 40 draft] := hD
      refine lv_iload_n hx hb dX9_read_105 rfl (lv_at hl 1 rfl) ?_
      have hP9 := hP
      have hD9 := hD
      exact W.iret (v := x1) hx hb hr (fun t ht hW => ⟨⟨x1, (typed, atv, f_5, draft), rfl, hw, by rw [ht]; exact hP9, hD9⟩, hS.F ht⟩) hS.2.2 dX9_read_106
    · replace hw := hw.2 c_1
      refine lv_aload_n hx hb dX9_read_58 rfl (lv_at hl 0 rfl) ?_
      refine va_get (D := G.1) (ci := 9) (v := .ref h_s) (C := RX9) (T := TX9) (N := 14) hx hb hts in_X9 hown hK.1 hP 0 rfl rfl 0 (by decide) (hts _ q817) (fun _ h9 => h9) rfl dX9_read_59 ?_
      refine lv_iload_n hx hb dX9_read_62 rfl (lv_at hl 3 rfl) ?_
      refine lv_aload_n hx hb dX9_read_63 rfl (lv_at hl 0 rfl) ?_
      refine va_get (D := G.1) (ci := 9) (v := .ref h_draft) (C := RX9) (T := TX9) (N := 14) hx hb hts in_X9 hown hK.1 hP 0 rfl rfl 5 (by decide) (hts _ q822) (fun _ h9 => h9) rfl dX9_read_64 ?_
      refine lv_iload_n hx hb dX9_read_67 rfl (lv_at hl 3 rfl) ?_
      obtain ⟨i_6, hw⟩ := hw
      refine z_iald hx hb hK.1 hP 3 0 rfl rfl i_6 dX9_read_68 (k := x3.toNatClampNeg) rfl ?_
      refine lv_topi (fun v_7 ev_7 => ?_)
      replace hw := hw v_7 ev_7
      obtain ⟨i_8, hw⟩ := hw
      refine z_iast hx hb hK.1 hP hD hS 1 0 rfl rfl i_8 dX9_read_69 (k := x3.toNatClampNeg) rfl (fun f_9 ef_9 H locs hP hD hS => ?_)
      replace hw := hw f_9 ef_9
      have hP : va_P G.1 gCl [oc h 9 [.ref h_s, .ref h_images, .int kept, .ref h_tape, .int typed, .ref h_draft, .int atv, .ref h_items, .ref h_moved, .ref h_sizes, .ref h_lanes, .ref h_less, .ref h_aside, .ref h_order], ai G h_s 161 f_9, ai G h_tape 70 tape, ai G h_draft 40 draft] H := hP
      have hD : va_D A [oc h 9 [.ref h_s, .ref h_images, .int kept, .ref h_tape, .int typed, .ref h_draft, .int atv, .ref h_items, .ref h_moved, .ref h_sizes, .ref h_lanes, .ref h_less, .ref h_aside, .ref h_order], ai G h_s 161 f_9, ai G h_tape 70 tape, ai G h_draft 40 draft] := hD
      refine lv_iinc (v := (x3 + (1 : Int32))) (lv' := [(3, .int (x3 + (1 : Int32))), (0, .ref h), (1, .int x1), (2, .int x2)]) hx hb dX9_read_70 hl (k := 3) rfl rfl (by decide) rfl (fun ls hl => ?_)
      refine lv_goto (tgt := 52) hx hb dX9_read_73 (by decide) ?_
      exact ih typed atv f_9 draft x1 x2 (x3 + (1 : Int32)) H locs hP hD hS ls (lv_sub hl [1, 2, 3, 0] rfl) hw
def wp_X9_read_2 (tape : Nat → Int32) (Q : Int32 → (Int32 × Int32 × (Nat → Int32) × (Nat → Int32)) → Prop)  : Nat → Int32 → Int32 → (Nat → Int32) → (Nat → Int32) → Int32 → Prop
  | 0, _, _, _, _, _ => False
  | n + 1, typed, atv, sv, draft, x1 =>
    ((((40 : Int32) ≤ x1) → wp_X9_readsAll typed atv tape draft  (fun r_2 u_3 => (((0 ≤ r_2) → (∀ v_5 : Int32, v_5 = (sv 3) → (∃ j_ : Nat, wp_X9_read_52 tape Q  j_ (0 : Int32) u_3.1 sv u_3.2 r_2 v_5 (0 : Int32)))) ∧ (¬ (0 ≤ r_2) → Q ((-20 : Int32) - u_3.1) ((0 : Int32), u_3.1, sv, u_3.2))))) ∧ (¬ ((40 : Int32) ≤ x1) → (vp_in x1 40 ∧ ∀ f_7 : Nat → Int32, f_7 = upd draft x1.toNatClampNeg (0 : Int32) → wp_X9_read_2 tape Q  n typed atv sv f_7 (x1 + (1 : Int32)))))
set_option maxHeartbeats 4000000 in
theorem wk_X9_read_2 {p : Program} {l : Launch} {e : Env} {s : State} {m : MethodId} {below : List Frame} {meth : Method} {c : Code} {args : Array Value} {G : GT} {A : Nat → Prop} (h h_s h_images h_tape h_draft h_items h_moved h_sizes h_lanes h_less h_aside h_order : Nat) (kept : Int32) (tape : Nat → Int32) (Q : Int32 → (Int32 × Int32 × (Nat → Int32) × (Nat → Int32)) → Prop)  (C : Cx p s m meth c cX9_read 4 (some .int) RX9 args G A)  :
    ∀ (n : Nat), ∀  (typed : Int32) (atv : Int32) (sv : Nat → Int32) (draft : Nat → Int32) (x1 : Int32) (H : Heap) (locs : List Loc), va_P G.1 gCl [oc h 9 [.ref h_s, .ref h_images, .int kept, .ref h_tape, .int typed, .ref h_draft, .int atv, .ref h_items, .ref h_moved, .ref h_sizes, .ref h_lanes, .ref h_less, .ref h_aside, .ref h_order], ai G h_s 161 sv, ai G h_tape 70 tape, ai G h_draft 40 draft] H → va_D A [oc h 9 [.ref h_s, .ref h_images, .int kept, .ref h_tape, .int typed, .ref h_draft, .int atv, .ref h_items, .ref h_moved, .ref h_sizes, .ref h_lanes, .ref h_less, .ref h_aside, .ref h_order], ai G h_s 161 sv, ai G h_tape 70 tape, ai G h_draft 40 draft] → va_S A s.heap H locs → ∀ (ls : Array Slot), lv_has ls 4 [(0, .ref h), (1, .int x1)] → wp_X9_read_2 tape Q  n typed atv sv draft x1 → W p l e ({ frames := 4, cells := 0, slots := 0, locals := 91 } : Room) s m args below meth c H locs 0 0 (MQ below (va_Qi (fun (r : Int32) (u : Int32 × Int32 × (Nat → Int32) × (Nat → Int32)) => Q r u) (fun u t => va_P G.1 gCl [oc h 9 [.ref h_s, .ref h_images, .int kept, .ref h_tape, .int u.1, .ref h_draft, .int u.2.1, .ref h_items, .ref h_moved, .ref h_sizes, .ref h_lanes, .ref h_less, .ref h_aside, .ref h_order], ai G h_s 161 u.2.2.1, ai G h_tape 70 tape, ai G h_draft 40 u.2.2.2] t.heap ∧ va_D A [oc h 9 [.ref h_s, .ref h_images, .int kept, .ref h_tape, .int u.1, .ref h_draft, .int u.2.1, .ref h_items, .ref h_moved, .ref h_sizes, .ref h_lanes, .ref h_less, .ref h_aside, .ref h_order], ai G h_s 161 u.2.2.1, ai G h_tape 70 tape, ai G h_draft 40 u.2.2.2]) A) args s 0 0 A) (F0 m 2 ls []) := by
  have C9 := C
  obtain ⟨hx, hb, hr, hlocks, hml, hown, hts, hK, hA⟩ := C9
  intro n
  induction n with
  | zero => intro typed atv sv draft x1 H locs hP hD hS ls hl hw; exact False.elim hw
  | succ n ih =>
    intro typed atv sv draft x1 H locs hP hD hS ls hl hw
    unfold wp_X9_read_2 at hw
    refine lv_iload_n hx hb dX9_read_2 rfl (lv_at hl 1 rfl) ?_
    refine lv_bipush (v := (40 : Int32)) hx hb dX9_read_3 (by decide) ?_
    refine lv_icmp_ge (tgt := 21) hx hb dX9_read_5 (by decide) (fun c_1 => ?_) (fun c_1 => ?_)
    · replace hw := hw.1 c_1
      refine lv_aload_n hx hb dX9_read_21 rfl (lv_at hl 0 rfl) ?_
      have hPc := hP.sub (ws' := [oc h 9 [.ref h_s, .ref h_images, .int kept, .ref h_tape, .int typed, .ref h_draft, .int atv, .ref h_items, .ref h_moved, .ref h_sizes, .ref h_lanes, .ref h_less, .ref h_aside, .ref h_order], ai G h_tape 70 tape, ai G h_draft 40 draft]) [0, 2, 3] rfl
      have hDc := hD.sub (ws' := [oc h 9 [.ref h_s, .ref h_images, .int kept, .ref h_tape, .int typed, .ref h_draft, .int atv, .ref h_items, .ref h_moved, .ref h_sizes, .ref h_lanes, .ref h_less, .ref h_aside, .ref h_order], ai G h_tape 70 tape, ai G h_draft 40 draft]) [0, 2, 3] (by decide) rfl
      have hFc := va_free (wc := [oc h 9 [.ref h_s, .ref h_images, .int kept, .ref h_tape, .int typed, .ref h_draft, .int atv, .ref h_items, .ref h_moved, .ref h_sizes, .ref h_lanes, .ref h_less, .ref h_aside, .ref h_order], ai G h_tape 70 tape, ai G h_draft 40 draft]) hD hS hA [0, 2, 3] rfl
      refine va_calli (va_runV (As := []) (rest := []) ⟨hx, hb, hml, hown, hts⟩ (mt_X9_readsAll l G h h_s h_images h_tape h_draft h_items h_moved h_sizes h_lanes h_less h_aside h_order H.size kept typed atv tape draft  _ hw) (cwV 0 hts (lw_V q922 q924 qs34 q65 q925) rfl rfl rfl (by decide +kernel) ⟨Nat.le_of_ble_eq_true rfl, Nat.le_of_ble_eq_true rfl⟩) ⟨fun a U g mk q => by obtain ⟨q0, q1, qP, qK, qD⟩ := q; exact ⟨q0, q1, qP, qK.call, qD⟩, va_recv hK.1 hP (ci := 9) (q0 := 0) rfl rfl, fun U hU hW => ⟨rfl, by rw [hU], by rw [hU]; exact hPc, hK.warm hW, hDc.weaken (fun _ _ _ _ => trivial)⟩⟩ rfl rfl hl.1 rfl (lv_room (Nat.le_of_ble_eq_true rfl)) dX9_read_22 ⟨Nat.le_of_ble_eq_true rfl, Nat.le_of_ble_eq_true rfl⟩) hS (fun q _ h => hFc q h) hFc (fun r_2 u_3 t H1 locs ht hvm hw hB hz1 hk1 hS => ?_)
      obtain ⟨hP1, hD1⟩ := hB
      rw [ht] at hP1
      obtain ⟨hP, hD⟩ := va_join (wr := [ai G h_s 161 sv]) (w1 := [oc h 9 [.ref h_s, .ref h_images, .int kept, .ref h_tape, .int typed, .ref h_draft, .int u_3.1, .ref h_items, .ref h_moved, .ref h_sizes, .ref h_lanes, .ref h_less, .ref h_aside, .ref h_order], ai G h_tape 70 tape, ai G h_draft 40 u_3.2]) hP hD [0, 2, 3] [1] rfl rfl (by decide) (by decide) hk1 hFc hP1 hD1
      clear hPc hDc hFc hP1 hD1 hz1 hk1 hvm
      generalize H1 = H at hP hS ⊢
      have hP : va_P G.1 gCl [ai G h_s 161 sv, oc h 9 [.ref h_s, .ref h_images, .int kept, .ref h_tape, .int typed, .ref h_draft, .int u_3.1, .ref h_items, .ref h_moved, .ref h_sizes, .ref h_lanes, .ref h_less, .ref h_aside, .ref h_order], ai G h_tape 70 tape, ai G h_draft 40 u_3.2] H := hP
      have hD : va_D A [ai G h_s 161 sv, oc h 9 [.ref h_s, .ref h_images, .int kept, .ref h_tape, .int typed, .ref h_draft, .int u_3.1, .ref h_items, .ref h_moved, .ref h_sizes, .ref h_lanes, .ref h_less, .ref h_aside, .ref h_order], ai G h_tape 70 tape, ai G h_draft 40 u_3.2] := hD
      refine lv_istore_n (lv' := [(1, .int r_2), (0, .ref h)]) hx hb dX9_read_25 rfl hl (by decide) rfl (fun ls hl => ?_)
      refine lv_aload_n hx hb dX9_read_26 rfl (lv_at hl 1 rfl) ?_
      refine lv_iconst (v := (0 : Int32)) hx hb dX9_read_27 (by decide) ?_
      refine va_put (D := G.1) (ci := 9) (v := .int (0 : Int32)) (ty := .int) (C := RX9) (T := TX9) (N := 14) hx hb hts in_X9 tyX9 tyX9_ok nmX9 hown hK.1 hP hD hS 1 rfl rfl 4 (by decide) (hts _ q821) (fun _ h9 => h9) rfl (by decide +kernel) rfl rfl (Nat.le_of_ble_eq_true rfl) dX9_read_28 (fun H locs hP hD hS => ?_)
      have hP : va_P G.1 gCl [ai G h_s 161 sv, oc h 9 [.ref h_s, .ref h_images, .int kept, .ref h_tape, .int (0 : Int32), .ref h_draft, .int u_3.1, .ref h_items, .ref h_moved, .ref h_sizes, .ref h_lanes, .ref h_less, .ref h_aside, .ref h_order], ai G h_tape 70 tape, ai G h_draft 40 u_3.2] H := hP
      have hD : va_D A [ai G h_s 161 sv, oc h 9 [.ref h_s, .ref h_images, .int kept, .ref h_tape, .int (0 : Int32), .ref h_draft, .int u_3.1, .ref h_items, .ref h_moved, .ref h_sizes, .ref h_lanes, .ref h_less, .ref h_aside, .ref h_order], ai G h_tape 70 tape, ai G h_draft 40 u_3.2] := hD
      refine lv_iload_n hx hb dX9_read_31 rfl (lv_at hl 0 rfl) ?_
      refine lv_if_ge (tgt := 43) hx hb dX9_read_32 (by decide) (fun c_4 => ?_) (fun c_4 => ?_)
      · replace hw := hw.1 c_4
        refine lv_aload_n hx hb dX9_read_43 rfl (lv_at hl 1 rfl) ?_
        refine va_get (D := G.1) (ci := 9) (v := .ref h_s) (C := RX9) (T := TX9) (N := 14) hx hb hts in_X9 hown hK.1 hP 1 rfl rfl 0 (by decide) (hts _ q817) (fun _ h9 => h9) rfl dX9_read_44 ?_
        refine lv_iconst (v := (3 : Int32)) hx hb dX9_read_47 (by decide) ?_
        refine z_iald hx hb hK.1 hP 0 0 rfl rfl (vin_l (by decide +kernel)) dX9_read_48 (k := 3) rfl ?_
        refine lv_topi (fun v_5 ev_5 => ?_)
        replace hw := hw v_5 ev_5
        refine lv_istore_n (lv' := [(2, .int v_5), (1, .int r_2), (0, .ref h)]) hx hb dX9_read_49 rfl hl (by decide) rfl (fun ls hl => ?_)
        refine lv_iconst (v := (0 : Int32)) hx hb dX9_read_50 (by decide) ?_
        refine lv_istore_n (lv' := [(3, .int (0 : Int32)), (2, .int v_5), (1, .int r_2), (0, .ref h)]) hx hb dX9_read_51 rfl hl (by decide) rfl (fun ls hl => ?_)
        obtain ⟨j_, hw⟩ := hw
        exact wk_X9_read_52 h h_s h_images h_tape h_draft h_items h_moved h_sizes h_lanes h_less h_aside h_order kept tape  Q  C  j_ (0 : Int32) u_3.1 sv u_3.2 r_2 v_5 (0 : Int32) H locs (hP.sub [1, 0, 2, 3] rfl) (hD.sub [1, 0, 2, 3] (by decide) rfl) hS ls (lv_sub hl [3, 2, 1, 0] rfl) hw
      · replace hw := hw.2 c_4
        refine lv_bipush (v := (-20 : Int32)) hx hb dX9_read_35 (by decide) ?_
        refine lv_aload_n hx hb dX9_read_37 rfl (lv_at hl 1 rfl) ?_
        refine va_get (D := G.1) (ci := 9) (v := .int u_3.1) (C := RX9) (T := TX9) (N := 14) hx hb hts in_X9 hown hK.1 hP 1 rfl rfl 6 (by decide) (hts _ q823) (fun _ h9 => h9) rfl dX9_read_38 ?_
        refine lv_isub hx hb dX9_read_41 ?_
        have hP9 := hP.sub (ws' := [oc h 9 [.ref h_s, .ref h_images, .int kept, .ref h_tape, .int (0 : Int32), .ref h_draft, .int u_3.1, .ref h_items, .ref h_moved, .ref h_sizes, .ref h_lanes, .ref h_less, .ref h_aside, .ref h_order], ai G h_s 161 sv, ai G h_tape 70 tape, ai G h_draft 40 u_3.2]) [1, 0, 2, 3] rfl
        have hD9 := hD.sub (ws' := [oc h 9 [.ref h_s, .ref h_images, .int kept, .ref h_tape, .int (0 : Int32), .ref h_draft, .int u_3.1, .ref h_items, .ref h_moved, .ref h_sizes, .ref h_lanes, .ref h_less, .ref h_aside, .ref h_order], ai G h_s 161 sv, ai G h_tape 70 tape, ai G h_draft 40 u_3.2]) [1, 0, 2, 3] (by decide) rfl
        exact W.iret (v := ((-20 : Int32) - u_3.1)) hx hb hr (fun t ht hW => ⟨⟨((-20 : Int32) - u_3.1), ((0 : Int32), u_3.1, sv, u_3.2), rfl, hw, by rw [ht]; exact hP9, hD9⟩, hS.F ht⟩) hS.2.2 dX9_read_42
    · replace hw := hw.2 c_1
      refine lv_aload_n hx hb dX9_read_8 rfl (lv_at hl 0 rfl) ?_
      refine va_get (D := G.1) (ci := 9) (v := .ref h_draft) (C := RX9) (T := TX9) (N := 14) hx hb hts in_X9 hown hK.1 hP 0 rfl rfl 5 (by decide) (hts _ q822) (fun _ h9 => h9) rfl dX9_read_9 ?_
      refine lv_iload_n hx hb dX9_read_12 rfl (lv_at hl 1 rfl) ?_
      refine lv_iconst (v := (0 : Int32)) hx hb dX9_read_13 (by decide) ?_
      obtain ⟨i_6, hw⟩ := hw
      refine z_iast hx hb hK.1 hP hD hS 3 0 rfl rfl i_6 dX9_read_14 (k := x1.toNatClampNeg) rfl (fun f_7 ef_7 H locs hP hD hS => ?_)
      replace hw := hw f_7 ef_7
      have hP : va_P G.1 gCl [oc h 9 [.ref h_s, .ref h_images, .int kept, .ref h_tape, .int typed, .ref h_draft, .int atv, .ref h_items, .ref h_moved, .ref h_sizes, .ref h_lanes, .ref h_less, .ref h_aside, .ref h_order], ai G h_s 161 sv, ai G h_tape 70 tape, ai G h_draft 40 f_7] H := hP
      have hD : va_D A [oc h 9 [.ref h_s, .ref h_images, .int kept, .ref h_tape, .int typed, .ref h_draft, .int atv, .ref h_items, .ref h_moved, .ref h_sizes, .ref h_lanes, .ref h_less, .ref h_aside, .ref h_order], ai G h_s 161 sv, ai G h_tape 70 tape, ai G h_draft 40 f_7] := hD
      refine lv_iinc (v := (x1 + (1 : Int32))) (lv' := [(1, .int (x1 + (1 : Int32))), (0, .ref h)]) hx hb dX9_read_15 hl (k := 1) rfl rfl (by decide) rfl (fun ls hl => ?_)
      refine lv_goto (tgt := 2) hx hb dX9_read_18 (by decide) ?_
      exact ih typed atv sv f_7 (x1 + (1 : Int32)) H locs hP hD hS ls (lv_sub hl [1, 0] rfl) hw
def wp_X9_read (typed : Int32) (atv : Int32) (sv : Nat → Int32) (tape : Nat → Int32) (draft : Nat → Int32) (Q : Int32 → (Int32 × Int32 × (Nat → Int32) × (Nat → Int32)) → Prop) : Prop :=
  (∃ j_ : Nat, wp_X9_read_2 tape Q  j_ typed atv sv draft (0 : Int32))
set_option maxHeartbeats 4000000 in
theorem mt_X9_read (l : Launch) (G : GT) (h h_s h_images h_tape h_draft h_items h_moved h_sizes h_lanes h_less h_aside h_order : Nat) (sz : Nat) (kept : Int32) (typed : Int32) (atv : Int32) (sv : Nat → Int32) (tape : Nat → Int32) (draft : Nat → Int32) (Q : Int32 → (Int32 × Int32 × (Nat → Int32) × (Nat → Int32)) → Prop) (hw : wp_X9_read typed atv sv tape draft Q) : Met l yX9_read (ws_ yX9_read cX9_read 4 (some .int)) ({ frames := 4, cells := 0, slots := 0, locals := 91 } : Room) (va_Pc [.ref h] (fun U => U.heap.size = sz ∧ va_P G.1 gCl [oc h 9 [.ref h_s, .ref h_images, .int kept, .ref h_tape, .int typed, .ref h_draft, .int atv, .ref h_items, .ref h_moved, .ref h_sizes, .ref h_lanes, .ref h_less, .ref h_aside, .ref h_order], ai G h_s 161 sv, ai G h_tape 70 tape, ai G h_draft 40 draft] U.heap ∧ gK G U ∧ va_D (fun _ => True) [oc h 9 [.ref h_s, .ref h_images, .int kept, .ref h_tape, .int typed, .ref h_draft, .int atv, .ref h_items, .ref h_moved, .ref h_sizes, .ref h_lanes, .ref h_less, .ref h_aside, .ref h_order], ai G h_s 161 sv, ai G h_tape 70 tape, ai G h_draft 40 draft])) ((fun A => (va_Qi (fun (r : Int32) (u : Int32 × Int32 × (Nat → Int32) × (Nat → Int32)) => Q r u) (fun u t => va_P G.1 gCl [oc h 9 [.ref h_s, .ref h_images, .int kept, .ref h_tape, .int u.1, .ref h_draft, .int u.2.1, .ref h_items, .ref h_moved, .ref h_sizes, .ref h_lanes, .ref h_less, .ref h_aside, .ref h_order], ai G h_s 161 u.2.2.1, ai G h_tape 70 tape, ai G h_draft 40 u.2.2.2] t.heap ∧ va_D A [oc h 9 [.ref h_s, .ref h_images, .int kept, .ref h_tape, .int u.1, .ref h_draft, .int u.2.1, .ref h_items, .ref h_moved, .ref h_sizes, .ref h_lanes, .ref h_less, .ref h_aside, .ref h_order], ai G h_s 161 u.2.2.1, ai G h_tape 70 tape, ai G h_draft 40 u.2.2.2]) A)) (va_A [oc h 9 [.ref h_s, .ref h_images, .int kept, .ref h_tape, .int typed, .ref h_draft, .int atv, .ref h_items, .ref h_moved, .ref h_sizes, .ref h_lanes, .ref h_less, .ref h_aside, .ref h_order], ai G h_s 161 sv, ai G h_tape 70 tape, ai G h_draft 40 draft] sz)) 0 0 (va_A [oc h 9 [.ref h_s, .ref h_images, .int kept, .ref h_tape, .int typed, .ref h_draft, .int atv, .ref h_items, .ref h_moved, .ref h_sizes, .ref h_lanes, .ref h_less, .ref h_aside, .ref h_order], ai G h_s 161 sv, ai G h_tape 70 tape, ai G h_draft 40 draft] sz) := by
  refine Met.ofW (cc := cX9_read) (maxL := 4) (ret := (some .int)) (by decide) rfl ?_
  intro p e s m args below meth c s₁ B hml hv
  obtain ⟨rfl, hsz, hP, hK, hD0⟩ := hv
  have hx := B.exec
  have hb := B.bytes
  have hr := B.returns
  have hts := atoms_spec (ws := (ws_ yX9_read cX9_read 4 (some .int))) B.pre
  have hts : ∀ w ∈ lw_all, w.before _ s = true := fun w h => hts w (List.mem_cons_of_mem _ h)
  have hown : s.vm.findClass RX9 = some m.cls := findClass_of_methodNamed B.named
  have hlocks := B.notSynchronized
  subst hsz
  have hD := hD0.self (sz := s.heap.size)
  generalize hAe : va_A [oc h 9 [.ref h_s, .ref h_images, .int kept, .ref h_tape, .int typed, .ref h_draft, .int atv, .ref h_items, .ref h_moved, .ref h_sizes, .ref h_lanes, .ref h_less, .ref h_aside, .ref h_order], ai G h_s 161 sv, ai G h_tape 70 tape, ai G h_draft 40 draft] s.heap.size = A at hD ⊢
  have hA : ∀ q : Nat, s.heap.size ≤ q → A q := fun q h => by rw [← hAe]; exact Or.inr h
  have hS : va_S A s.heap s.heap [] := va_S.rf
  have C : Cx p s m meth c cX9_read 4 (some .int) RX9 ([.ref h] : List Value).toArray G A := ⟨hx, hb, hr, hlocks, hml, hown, hts, hK, hA⟩
  have hl := lv_entry ([.ref h]) (n := 4) (Nat.le_of_ble_eq_true rfl)
  rw [lg_entry_eq]
  generalize (lg_sl ([.ref h]) ++ List.replicate (4 - (lg_sl ([.ref h])).length) Slot.unset).toArray = ls at hl ⊢
  have hl : lv_has ls 4 [(0, .ref h)] := hl
  unfold wp_X9_read at hw
  refine lv_iconst (v := (0 : Int32)) hx hb dX9_read_0 (by decide) ?_
  refine lv_istore_n (lv' := [(1, .int (0 : Int32)), (0, .ref h)]) hx hb dX9_read_1 rfl hl (by decide) rfl (fun ls hl => ?_)
  obtain ⟨j_, hw⟩ := hw
  exact wk_X9_read_2 h h_s h_images h_tape h_draft h_items h_moved h_sizes h_lanes h_less h_aside h_order kept tape  Q  C  j_ typed atv sv draft (0 : Int32) s.heap [] hP hD hS ls (lv_sub hl [1, 0] rfl) hw
/-! BattleBenchModel.bench()I -/
def wp_X9_bench_4 (sv : Nat → Int32) (Q : Int32 → Prop)  : Nat → Int32 → Int32 → Prop
  | 0, _, _ => False
  | n + 1, x1, x2 =>
    ((((sv 1) ≤ x2) → Q x1) ∧ (¬ ((sv 1) ≤ x2) → (vp_in ((10 : Int32) + x2) 161 ∧ (∀ v_3 : Int32, v_3 = (x1 ||| ((1 : Int32) <<< ((sv (((10 : Int32) + x2)).toNatClampNeg) &&& 31))) → wp_X9_bench_4 sv Q  n v_3 (x2 + (1 : Int32))))))
set_option maxHeartbeats 4000000 in
theorem wk_X9_bench_4 {p : Program} {l : Launch} {e : Env} {s : State} {m : MethodId} {below : List Frame} {meth : Method} {c : Code} {args : Array Value} {G : GT} {A : Nat → Prop} (h h_s h_images h_tape h_draft h_items h_moved h_sizes h_lanes h_less h_aside h_order : Nat) (kept : Int32) (typed : Int32) (atv : Int32) (sv : Nat → Int32) (Q : Int32 → Prop)  (C : Cx p s m meth c cX9_bench 3 (some .int) RX9 args G A)  :
    ∀ (n : Nat), ∀  (x1 : Int32) (x2 : Int32) (H : Heap) (locs : List Loc), va_P G.1 gCl [oc h 9 [.ref h_s, .ref h_images, .int kept, .ref h_tape, .int typed, .ref h_draft, .int atv, .ref h_items, .ref h_moved, .ref h_sizes, .ref h_lanes, .ref h_less, .ref h_aside, .ref h_order], ai G h_s 161 sv] H → va_D A [oc h 9 [.ref h_s, .ref h_images, .int kept, .ref h_tape, .int typed, .ref h_draft, .int atv, .ref h_items, .ref h_moved, .ref h_sizes, .ref h_lanes, .ref h_less, .ref h_aside, .ref h_order], ai G h_s 161 sv] → va_S A s.heap H locs → ∀ (ls : Array Slot), lv_has ls 3 [(0, .ref h), (1, .int x1), (2, .int x2)] → wp_X9_bench_4 sv Q  n x1 x2 → W p l e ({ frames := 0, cells := 0, slots := 0, locals := 0 } : Room) s m args below meth c H locs 0 0 (MQ below (va_Qi (fun (r : Int32) (u : Unit) => Q r ) (fun u t => va_P G.1 gCl [oc h 9 [.ref h_s, .ref h_images, .int kept, .ref h_tape, .int typed, .ref h_draft, .int atv, .ref h_items, .ref h_moved, .ref h_sizes, .ref h_lanes, .ref h_less, .ref h_aside, .ref h_order], ai G h_s 161 sv] t.heap ∧ va_D A [oc h 9 [.ref h_s, .ref h_images, .int kept, .ref h_tape, .int typed, .ref h_draft, .int atv, .ref h_items, .ref h_moved, .ref h_sizes, .ref h_lanes, .ref h_less, .ref h_aside, .ref h_order], ai G h_s 161 sv]) A) args s 0 0 A) (F0 m 4 ls []) := by
  have C9 := C
  obtain ⟨hx, hb, hr, hlocks, hml, hown, hts, hK, hA⟩ := C9
  intro n
  induction n with
  | zero => intro x1 x2 H locs hP hD hS ls hl hw; exact False.elim hw
  | succ n ih =>
    intro x1 x2 H locs hP hD hS ls hl hw
    unfold wp_X9_bench_4 at hw
    refine lv_iload_n hx hb dX9_bench_4 rfl (lv_at hl 2 rfl) ?_
    refine lv_aload_n hx hb dX9_bench_5 rfl (lv_at hl 0 rfl) ?_
    refine va_get (D := G.1) (ci := 9) (v := .ref h_s) (C := RX9) (T := TX9) (N := 14) hx hb hts in_X9 hown hK.1 hP 0 rfl rfl 0 (by decide) (hts _ q817) (fun _ h9 => h9) rfl dX9_bench_6 ?_
    refine lv_iconst (v := (1 : Int32)) hx hb dX9_bench_9 (by decide) ?_
    refine z_iald hx hb hK.1 hP 1 0 rfl rfl (vin_l (by decide +kernel)) dX9_bench_10 (k := 1) rfl ?_
    refine lv_icmp_ge (tgt := 34) hx hb dX9_bench_11 (by decide) (fun c_1 => ?_) (fun c_1 => ?_)
    · replace hw := hw.1 c_1
      refine lv_iload_n hx hb dX9_bench_34 rfl (lv_at hl 1 rfl) ?_
      have hP9 := hP
      have hD9 := hD
      exact W.iret (v := x1) hx hb hr (fun t ht hW => ⟨⟨x1, (), rfl, hw, by rw [ht]; exact hP9, hD9⟩, hS.F ht⟩) hS.2.2 dX9_bench_35
    · replace hw := hw.2 c_1
      refine lv_iload_n hx hb dX9_bench_14 rfl (lv_at hl 1 rfl) ?_
      refine lv_iconst (v := (1 : Int32)) hx hb dX9_bench_15 (by decide) ?_
      refine lv_aload_n hx hb dX9_bench_16 rfl (lv_at hl 0 rfl) ?_
      refine va_get (D := G.1) (ci := 9) (v := .ref h_s) (C := RX9) (T := TX9) (N := 14) hx hb hts in_X9 hown hK.1 hP 0 rfl rfl 0 (by decide) (hts _ q817) (fun _ h9 => h9) rfl dX9_bench_17 ?_
      refine lv_bipush (v := (10 : Int32)) hx hb dX9_bench_20 (by decide) ?_
      refine lv_iload_n hx hb dX9_bench_22 rfl (lv_at hl 2 rfl) ?_
      refine lv_iadd hx hb dX9_bench_23 ?_
      obtain ⟨i_2, hw⟩ := hw
      refine z_iald hx hb hK.1 hP 1 0 rfl rfl i_2 dX9_bench_24 (k := (((10 : Int32) + x2)).toNatClampNeg) rfl ?_
      refine lv_ishl hx hb dX9_bench_25 ?_
      refine lv_ior hx hb dX9_bench_26 ?_
      refine lv_topi (fun v_3 ev_3 => ?_)
      replace hw := hw v_3 ev_3
      refine lv_istore_n (lv' := [(1, .int v_3), (0, .ref h), (2, .int x2)]) hx hb dX9_bench_27 rfl hl (by decide) rfl (fun ls hl => ?_)
      refine lv_iinc (v := (x2 + (1 : Int32))) (lv' := [(2, .int (x2 + (1 : Int32))), (1, .int v_3), (0, .ref h)]) hx hb dX9_bench_28 hl (k := 2) rfl rfl (by decide) rfl (fun ls hl => ?_)
      refine lv_goto (tgt := 4) hx hb dX9_bench_31 (by decide) ?_
      exact ih v_3 (x2 + (1 : Int32)) H locs hP hD hS ls (lv_sub hl [2, 1, 0] rfl) hw
def wp_X9_bench (sv : Nat → Int32) (Q : Int32 → Prop) : Prop :=
  (∃ j_ : Nat, wp_X9_bench_4 sv Q  j_ (0 : Int32) (0 : Int32))
set_option maxHeartbeats 4000000 in
theorem mt_X9_bench (l : Launch) (G : GT) (h h_s h_images h_tape h_draft h_items h_moved h_sizes h_lanes h_less h_aside h_order : Nat) (sz : Nat) (kept : Int32) (typed : Int32) (atv : Int32) (sv : Nat → Int32) (Q : Int32 → Prop) (hw : wp_X9_bench sv Q) : Met l yX9_bench (ws_ yX9_bench cX9_bench 3 (some .int)) ({ frames := 0, cells := 0, slots := 0, locals := 0 } : Room) (va_Pc [.ref h] (fun U => U.heap.size = sz ∧ va_P G.1 gCl [oc h 9 [.ref h_s, .ref h_images, .int kept, .ref h_tape, .int typed, .ref h_draft, .int atv, .ref h_items, .ref h_moved, .ref h_sizes, .ref h_lanes, .ref h_less, .ref h_aside, .ref h_order], ai G h_s 161 sv] U.heap ∧ gK G U ∧ va_D (fun _ => True) [oc h 9 [.ref h_s, .ref h_images, .int kept, .ref h_tape, .int typed, .ref h_draft, .int atv, .ref h_items, .ref h_moved, .ref h_sizes, .ref h_lanes, .ref h_less, .ref h_aside, .ref h_order], ai G h_s 161 sv])) ((fun A => (va_Qi (fun (r : Int32) (u : Unit) => Q r ) (fun u t => va_P G.1 gCl [oc h 9 [.ref h_s, .ref h_images, .int kept, .ref h_tape, .int typed, .ref h_draft, .int atv, .ref h_items, .ref h_moved, .ref h_sizes, .ref h_lanes, .ref h_less, .ref h_aside, .ref h_order], ai G h_s 161 sv] t.heap ∧ va_D A [oc h 9 [.ref h_s, .ref h_images, .int kept, .ref h_tape, .int typed, .ref h_draft, .int atv, .ref h_items, .ref h_moved, .ref h_sizes, .ref h_lanes, .ref h_less, .ref h_aside, .ref h_order], ai G h_s 161 sv]) A)) (va_A [oc h 9 [.ref h_s, .ref h_images, .int kept, .ref h_tape, .int typed, .ref h_draft, .int atv, .ref h_items, .ref h_moved, .ref h_sizes, .ref h_lanes, .ref h_less, .ref h_aside, .ref h_order], ai G h_s 161 sv] sz)) 0 0 (va_A [oc h 9 [.ref h_s, .ref h_images, .int kept, .ref h_tape, .int typed, .ref h_draft, .int atv, .ref h_items, .ref h_moved, .ref h_sizes, .ref h_lanes, .ref h_less, .ref h_aside, .ref h_order], ai G h_s 161 sv] sz) := by
  refine Met.ofW (cc := cX9_bench) (maxL := 3) (ret := (some .int)) (by decide) rfl ?_
  intro p e s m args below meth c s₁ B hml hv
  obtain ⟨rfl, hsz, hP, hK, hD0⟩ := hv
  have hx := B.exec
  have hb := B.bytes
  have hr := B.returns
  have hts := atoms_spec (ws := (ws_ yX9_bench cX9_bench 3 (some .int))) B.pre
  have hts : ∀ w ∈ lw_all, w.before _ s = true := fun w h => hts w (List.mem_cons_of_mem _ h)
  have hown : s.vm.findClass RX9 = some m.cls := findClass_of_methodNamed B.named
  have hlocks := B.notSynchronized
  subst hsz
  have hD := hD0.self (sz := s.heap.size)
  generalize hAe : va_A [oc h 9 [.ref h_s, .ref h_images, .int kept, .ref h_tape, .int typed, .ref h_draft, .int atv, .ref h_items, .ref h_moved, .ref h_sizes, .ref h_lanes, .ref h_less, .ref h_aside, .ref h_order], ai G h_s 161 sv] s.heap.size = A at hD ⊢
  have hA : ∀ q : Nat, s.heap.size ≤ q → A q := fun q h => by rw [← hAe]; exact Or.inr h
  have hS : va_S A s.heap s.heap [] := va_S.rf
  have C : Cx p s m meth c cX9_bench 3 (some .int) RX9 ([.ref h] : List Value).toArray G A := ⟨hx, hb, hr, hlocks, hml, hown, hts, hK, hA⟩
  have hl := lv_entry ([.ref h]) (n := 3) (Nat.le_of_ble_eq_true rfl)
  rw [lg_entry_eq]
  generalize (lg_sl ([.ref h]) ++ List.replicate (3 - (lg_sl ([.ref h])).length) Slot.unset).toArray = ls at hl ⊢
  have hl : lv_has ls 3 [(0, .ref h)] := hl
  unfold wp_X9_bench at hw
  refine lv_iconst (v := (0 : Int32)) hx hb dX9_bench_0 (by decide) ?_
  refine lv_istore_n (lv' := [(1, .int (0 : Int32)), (0, .ref h)]) hx hb dX9_bench_1 rfl hl (by decide) rfl (fun ls hl => ?_)
  refine lv_iconst (v := (0 : Int32)) hx hb dX9_bench_2 (by decide) ?_
  refine lv_istore_n (lv' := [(2, .int (0 : Int32)), (1, .int (0 : Int32)), (0, .ref h)]) hx hb dX9_bench_3 rfl hl (by decide) rfl (fun ls hl => ?_)
  obtain ⟨j_, hw⟩ := hw
  exact wk_X9_bench_4 h h_s h_images h_tape h_draft h_items h_moved h_sizes h_lanes h_less h_aside h_order kept typed atv sv  Q  C  j_ (0 : Int32) (0 : Int32) s.heap [] hP hD hS ls (lv_sub hl [2, 1, 0] rfl) hw
