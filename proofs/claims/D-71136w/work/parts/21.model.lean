set_option maxRecDepth 100000
/-! BattleBenchModel.lives()I -/
def wp_X9_lives_4 (sv : Nat → Int32) (Q : Int32 → Prop)  : Nat → Int32 → Int32 → Prop
  | 0, _, _ => False
  | n + 1, x1, x2 =>
    ((((sv 0) ≤ x2) → Q x1) ∧ (¬ ((sv 0) ≤ x2) → (vp_in ((4 : Int32) + x2) 161 ∧ (∀ v_3 : Int32, v_3 = (x1 + (sv (((4 : Int32) + x2)).toNatClampNeg)) → wp_X9_lives_4 sv Q  n v_3 (x2 + (1 : Int32))))))
set_option maxHeartbeats 4000000 in
theorem wk_X9_lives_4 {p : Program} {l : Launch} {e : Env} {s : State} {m : MethodId} {below : List Frame} {meth : Method} {c : Code} {args : Array Value} {G : GT} {A : Nat → Prop} (h h_s h_images h_tape h_draft h_items h_moved h_sizes h_lanes h_less h_aside h_order : Nat) (kept : Int32) (typed : Int32) (atv : Int32) (sv : Nat → Int32) (Q : Int32 → Prop)  (C : Cx p s m meth c cX9_lives 3 (some .int) RX9 args G A)  :
    ∀ (n : Nat), ∀  (x1 : Int32) (x2 : Int32) (H : Heap) (locs : List Loc), va_P G.1 gCl [oc h 9 [.ref h_s, .ref h_images, .int kept, .ref h_tape, .int typed, .ref h_draft, .int atv, .ref h_items, .ref h_moved, .ref h_sizes, .ref h_lanes, .ref h_less, .ref h_aside, .ref h_order], ai G h_s 161 sv] H → va_D A [oc h 9 [.ref h_s, .ref h_images, .int kept, .ref h_tape, .int typed, .ref h_draft, .int atv, .ref h_items, .ref h_moved, .ref h_sizes, .ref h_lanes, .ref h_less, .ref h_aside, .ref h_order], ai G h_s 161 sv] → va_S A s.heap H locs → ∀ (ls : Array Slot), lv_has ls 3 [(0, .ref h), (1, .int x1), (2, .int x2)] → wp_X9_lives_4 sv Q  n x1 x2 → W p l e ({ frames := 0, cells := 0, slots := 0, locals := 0 } : Room) s m args below meth c H locs 0 0 (MQ below (va_Qi (fun (r : Int32) (u : Unit) => Q r ) (fun u t => va_P G.1 gCl [oc h 9 [.ref h_s, .ref h_images, .int kept, .ref h_tape, .int typed, .ref h_draft, .int atv, .ref h_items, .ref h_moved, .ref h_sizes, .ref h_lanes, .ref h_less, .ref h_aside, .ref h_order], ai G h_s 161 sv] t.heap ∧ va_D A [oc h 9 [.ref h_s, .ref h_images, .int kept, .ref h_tape, .int typed, .ref h_draft, .int atv, .ref h_items, .ref h_moved, .ref h_sizes, .ref h_lanes, .ref h_less, .ref h_aside, .ref h_order], ai G h_s 161 sv]) A) args s 0 0 A) (F0 m 4 ls []) := by
  have C9 := C
  obtain ⟨hx, hb, hr, hlocks, hml, hown, hts, hK, hA⟩ := C9
  intro n
  induction n with
  | zero => intro x1 x2 H locs hP hD hS ls hl hw; exact False.elim hw
  | succ n ih =>
    intro x1 x2 H locs hP hD hS ls hl hw
    unfold wp_X9_lives_4 at hw
    refine lv_iload_n hx hb dX9_lives_4 rfl (lv_at hl 2 rfl) ?_
    refine lv_aload_n hx hb dX9_lives_5 rfl (lv_at hl 0 rfl) ?_
    refine va_get (D := G.1) (ci := 9) (v := .ref h_s) (C := RX9) (T := TX9) (N := 14) hx hb hts in_X9 hown hK.1 hP 0 rfl rfl 0 (by decide) (hts _ q817) (fun _ h9 => h9) rfl dX9_lives_6 ?_
    refine lv_iconst (v := (0 : Int32)) hx hb dX9_lives_9 (by decide) ?_
    refine z_iald hx hb hK.1 hP 1 0 rfl rfl (vin_l (by decide +kernel)) dX9_lives_10 (k := 0) rfl ?_
    refine lv_icmp_ge (tgt := 31) hx hb dX9_lives_11 (by decide) (fun c_1 => ?_) (fun c_1 => ?_)
    · replace hw := hw.1 c_1
      refine lv_iload_n hx hb dX9_lives_31 rfl (lv_at hl 1 rfl) ?_
      have hP9 := hP
      have hD9 := hD
      exact W.iret (v := x1) hx hb hr (fun t ht hW => ⟨⟨x1, (), rfl, hw, by rw [ht]; exact hP9, hD9⟩, hS.F ht⟩) hS.2.2 dX9_lives_32
    · replace hw := hw.2 c_1
      refine lv_iload_n hx hb dX9_lives_14 rfl (lv_at hl 1 rfl) ?_
      refine lv_aload_n hx hb dX9_lives_15 rfl (lv_at hl 0 rfl) ?_
      refine va_get (D := G.1) (ci := 9) (v := .ref h_s) (C := RX9) (T := TX9) (N := 14) hx hb hts in_X9 hown hK.1 hP 0 rfl rfl 0 (by decide) (hts _ q817) (fun _ h9 => h9) rfl dX9_lives_16 ?_
      refine lv_iconst (v := (4 : Int32)) hx hb dX9_lives_19 (by decide) ?_
      refine lv_iload_n hx hb dX9_lives_20 rfl (lv_at hl 2 rfl) ?_
      refine lv_iadd hx hb dX9_lives_21 ?_
      obtain ⟨i_2, hw⟩ := hw
      refine z_iald hx hb hK.1 hP 1 0 rfl rfl i_2 dX9_lives_22 (k := (((4 : Int32) + x2)).toNatClampNeg) rfl ?_
      refine lv_iadd hx hb dX9_lives_23 ?_
      refine lv_topi (fun v_3 ev_3 => ?_)
      replace hw := hw v_3 ev_3
      refine lv_istore_n (lv' := [(1, .int v_3), (0, .ref h), (2, .int x2)]) hx hb dX9_lives_24 rfl hl (by decide) rfl (fun ls hl => ?_)
      refine lv_iinc (v := (x2 + (1 : Int32))) (lv' := [(2, .int (x2 + (1 : Int32))), (1, .int v_3), (0, .ref h)]) hx hb dX9_lives_25 hl (k := 2) rfl rfl (by decide) rfl (fun ls hl => ?_)
      refine lv_goto (tgt := 4) hx hb dX9_lives_28 (by decide) ?_
      exact ih v_3 (x2 + (1 : Int32)) H locs hP hD hS ls (lv_sub hl [2, 1, 0] rfl) hw
def wp_X9_lives (sv : Nat → Int32) (Q : Int32 → Prop) : Prop :=
  (∃ j_ : Nat, wp_X9_lives_4 sv Q  j_ (0 : Int32) (0 : Int32))
set_option maxHeartbeats 4000000 in
theorem mt_X9_lives (l : Launch) (G : GT) (h h_s h_images h_tape h_draft h_items h_moved h_sizes h_lanes h_less h_aside h_order : Nat) (sz : Nat) (kept : Int32) (typed : Int32) (atv : Int32) (sv : Nat → Int32) (Q : Int32 → Prop) (hw : wp_X9_lives sv Q) : Met l yX9_lives (ws_ yX9_lives cX9_lives 3 (some .int)) ({ frames := 0, cells := 0, slots := 0, locals := 0 } : Room) (va_Pc [.ref h] (fun U => U.heap.size = sz ∧ va_P G.1 gCl [oc h 9 [.ref h_s, .ref h_images, .int kept, .ref h_tape, .int typed, .ref h_draft, .int atv, .ref h_items, .ref h_moved, .ref h_sizes, .ref h_lanes, .ref h_less, .ref h_aside, .ref h_order], ai G h_s 161 sv] U.heap ∧ gK G U ∧ va_D (fun _ => True) [oc h 9 [.ref h_s, .ref h_images, .int kept, .ref h_tape, .int typed, .ref h_draft, .int atv, .ref h_items, .ref h_moved, .ref h_sizes, .ref h_lanes, .ref h_less, .ref h_aside, .ref h_order], ai G h_s 161 sv])) ((fun A => (va_Qi (fun (r : Int32) (u : Unit) => Q r ) (fun u t => va_P G.1 gCl [oc h 9 [.ref h_s, .ref h_images, .int kept, .ref h_tape, .int typed, .ref h_draft, .int atv, .ref h_items, .ref h_moved, .ref h_sizes, .ref h_lanes, .ref h_less, .ref h_aside, .ref h_order], ai G h_s 161 sv] t.heap ∧ va_D A [oc h 9 [.ref h_s, .ref h_images, .int kept, .ref h_tape, .int typed, .ref h_draft, .int atv, .ref h_items, .ref h_moved, .ref h_sizes, .ref h_lanes, .ref h_less, .ref h_aside, .ref h_order], ai G h_s 161 sv]) A)) (va_A [oc h 9 [.ref h_s, .ref h_images, .int kept, .ref h_tape, .int typed, .ref h_draft, .int atv, .ref h_items, .ref h_moved, .ref h_sizes, .ref h_lanes, .ref h_less, .ref h_aside, .ref h_order], ai G h_s 161 sv] sz)) 0 0 (va_A [oc h 9 [.ref h_s, .ref h_images, .int kept, .ref h_tape, .int typed, .ref h_draft, .int atv, .ref h_items, .ref h_moved, .ref h_sizes, .ref h_lanes, .ref h_less, .ref h_aside, .ref h_order], ai G h_s 161 sv] sz) := by
  refine Met.ofW (cc := cX9_lives) (maxL := 3) (ret := (some .int)) (by decide) rfl ?_
  intro p e s m args below meth c s₁ B hml hv
  obtain ⟨rfl, hsz, hP, hK, hD0⟩ := hv
  have hx := B.exec
  have hb := B.bytes
  have hr := B.returns
  have hts := atoms_spec (ws := (ws_ yX9_lives cX9_lives 3 (some .int))) B.pre
  have hts : ∀ w ∈ lw_all, w.before _ s = true := fun w h => hts w (List.mem_cons_of_mem _ h)
  have hown : s.vm.findClass RX9 = some m.cls := findClass_of_methodNamed B.named
  have hlocks := B.notSynchronized
  subst hsz
  have hD := hD0.self (sz := s.heap.size)
  generalize hAe : va_A [oc h 9 [.ref h_s, .ref h_images, .int kept, .ref h_tape, .int typed, .ref h_draft, .int atv, .ref h_items, .ref h_moved, .ref h_sizes, .ref h_lanes, .ref h_less, .ref h_aside, .ref h_order], ai G h_s 161 sv] s.heap.size = A at hD ⊢
  have hA : ∀ q : Nat, s.heap.size ≤ q → A q := fun q h => by rw [← hAe]; exact Or.inr h
  have hS : va_S A s.heap s.heap [] := va_S.rf
  have C : Cx p s m meth c cX9_lives 3 (some .int) RX9 ([.ref h] : List Value).toArray G A := ⟨hx, hb, hr, hlocks, hml, hown, hts, hK, hA⟩
  have hl := lv_entry ([.ref h]) (n := 3) (Nat.le_of_ble_eq_true rfl)
  rw [lg_entry_eq]
  generalize (lg_sl ([.ref h]) ++ List.replicate (3 - (lg_sl ([.ref h])).length) Slot.unset).toArray = ls at hl ⊢
  have hl : lv_has ls 3 [(0, .ref h)] := hl
  unfold wp_X9_lives at hw
  refine lv_iconst (v := (0 : Int32)) hx hb dX9_lives_0 (by decide) ?_
  refine lv_istore_n (lv' := [(1, .int (0 : Int32)), (0, .ref h)]) hx hb dX9_lives_1 rfl hl (by decide) rfl (fun ls hl => ?_)
  refine lv_iconst (v := (0 : Int32)) hx hb dX9_lives_2 (by decide) ?_
  refine lv_istore_n (lv' := [(2, .int (0 : Int32)), (1, .int (0 : Int32)), (0, .ref h)]) hx hb dX9_lives_3 rfl hl (by decide) rfl (fun ls hl => ?_)
  obtain ⟨j_, hw⟩ := hw
  exact wk_X9_lives_4 h h_s h_images h_tape h_draft h_items h_moved h_sizes h_lanes h_less h_aside h_order kept typed atv sv  Q  C  j_ (0 : Int32) (0 : Int32) s.heap [] hP hD hS ls (lv_sub hl [2, 1, 0] rfl) hw
/-! BattleBenchModel.wrong()I -/
def wp_X9_wrong_4 (sv : Nat → Int32) (Q : Int32 → Prop)  : Nat → Int32 → Int32 → Prop
  | 0, _, _ => False
  | n + 1, x1, x2 =>
    ((((sv 1) ≤ x2) → Q x1) ∧ (¬ ((sv 1) ≤ x2) → (vp_in (((10 : Int32) + x2) - (1 : Int32)) 161 ∧ (vp_in ((10 : Int32) + x2) 161 ∧ wp_X9_stoodBy sv (sv ((((10 : Int32) + x2) - (1 : Int32))).toNatClampNeg) (sv (((10 : Int32) + x2)).toNatClampNeg) (fun r_4 => (((r_4 = 0) → (∀ v_6 : Int32, v_6 = (x1 + (1 : Int32)) → wp_X9_wrong_4 sv Q  n v_6 (x2 + (1 : Int32)))) ∧ (¬ (r_4 = 0) → (∀ v_7 : Int32, v_7 = (x1 + (0 : Int32)) → wp_X9_wrong_4 sv Q  n v_7 (x2 + (1 : Int32))))))))))
set_option maxHeartbeats 4000000 in
theorem wk_X9_wrong_4 {p : Program} {l : Launch} {e : Env} {s : State} {m : MethodId} {below : List Frame} {meth : Method} {c : Code} {args : Array Value} {G : GT} {A : Nat → Prop} (h h_s h_images h_tape h_draft h_items h_moved h_sizes h_lanes h_less h_aside h_order : Nat) (kept : Int32) (typed : Int32) (atv : Int32) (sv : Nat → Int32) (Q : Int32 → Prop)  (C : Cx p s m meth c cX9_wrong 3 (some .int) RX9 args G A)  :
    ∀ (n : Nat), ∀  (x1 : Int32) (x2 : Int32) (H : Heap) (locs : List Loc), va_P G.1 gCl [oc h 9 [.ref h_s, .ref h_images, .int kept, .ref h_tape, .int typed, .ref h_draft, .int atv, .ref h_items, .ref h_moved, .ref h_sizes, .ref h_lanes, .ref h_less, .ref h_aside, .ref h_order], ai G h_s 161 sv] H → va_D A [oc h 9 [.ref h_s, .ref h_images, .int kept, .ref h_tape, .int typed, .ref h_draft, .int atv, .ref h_items, .ref h_moved, .ref h_sizes, .ref h_lanes, .ref h_less, .ref h_aside, .ref h_order], ai G h_s 161 sv] → va_S A s.heap H locs → ∀ (ls : Array Slot), lv_has ls 3 [(0, .ref h), (1, .int x1), (2, .int x2)] → wp_X9_wrong_4 sv Q  n x1 x2 → W p l e ({ frames := 1, cells := 0, slots := 0, locals := 29 } : Room) s m args below meth c H locs 0 0 (MQ below (va_Qi (fun (r : Int32) (u : Unit) => Q r ) (fun u t => va_P G.1 gCl [oc h 9 [.ref h_s, .ref h_images, .int kept, .ref h_tape, .int typed, .ref h_draft, .int atv, .ref h_items, .ref h_moved, .ref h_sizes, .ref h_lanes, .ref h_less, .ref h_aside, .ref h_order], ai G h_s 161 sv] t.heap ∧ va_D A [oc h 9 [.ref h_s, .ref h_images, .int kept, .ref h_tape, .int typed, .ref h_draft, .int atv, .ref h_items, .ref h_moved, .ref h_sizes, .ref h_lanes, .ref h_less, .ref h_aside, .ref h_order], ai G h_s 161 sv]) A) args s 0 0 A) (F0 m 4 ls []) := by
  have C9 := C
  obtain ⟨hx, hb, hr, hlocks, hml, hown, hts, hK, hA⟩ := C9
  intro n
  induction n with
  | zero => intro x1 x2 H locs hP hD hS ls hl hw; exact False.elim hw
  | succ n ih =>
    intro x1 x2 H locs hP hD hS ls hl hw
    unfold wp_X9_wrong_4 at hw
    refine lv_iload_n hx hb dX9_wrong_4 rfl (lv_at hl 2 rfl) ?_
    refine lv_aload_n hx hb dX9_wrong_5 rfl (lv_at hl 0 rfl) ?_
    refine va_get (D := G.1) (ci := 9) (v := .ref h_s) (C := RX9) (T := TX9) (N := 14) hx hb hts in_X9 hown hK.1 hP 0 rfl rfl 0 (by decide) (hts _ q817) (fun _ h9 => h9) rfl dX9_wrong_6 ?_
    refine lv_iconst (v := (1 : Int32)) hx hb dX9_wrong_9 (by decide) ?_
    refine z_iald hx hb hK.1 hP 1 0 rfl rfl (vin_l (by decide +kernel)) dX9_wrong_10 (k := 1) rfl ?_
    refine lv_icmp_ge (tgt := 55) hx hb dX9_wrong_11 (by decide) (fun c_1 => ?_) (fun c_1 => ?_)
    · replace hw := hw.1 c_1
      refine lv_iload_n hx hb dX9_wrong_55 rfl (lv_at hl 1 rfl) ?_
      have hP9 := hP
      have hD9 := hD
      exact W.iret (v := x1) hx hb hr (fun t ht hW => ⟨⟨x1, (), rfl, hw, by rw [ht]; exact hP9, hD9⟩, hS.F ht⟩) hS.2.2 dX9_wrong_56
    · replace hw := hw.2 c_1
      refine lv_iload_n hx hb dX9_wrong_14 rfl (lv_at hl 1 rfl) ?_
      refine lv_aload_n hx hb dX9_wrong_15 rfl (lv_at hl 0 rfl) ?_
      refine lv_aload_n hx hb dX9_wrong_16 rfl (lv_at hl 0 rfl) ?_
      refine va_get (D := G.1) (ci := 9) (v := .ref h_s) (C := RX9) (T := TX9) (N := 14) hx hb hts in_X9 hown hK.1 hP 0 rfl rfl 0 (by decide) (hts _ q817) (fun _ h9 => h9) rfl dX9_wrong_17 ?_
      refine lv_bipush (v := (10 : Int32)) hx hb dX9_wrong_20 (by decide) ?_
      refine lv_iload_n hx hb dX9_wrong_22 rfl (lv_at hl 2 rfl) ?_
      refine lv_iadd hx hb dX9_wrong_23 ?_
      refine lv_iconst (v := (1 : Int32)) hx hb dX9_wrong_24 (by decide) ?_
      refine lv_isub hx hb dX9_wrong_25 ?_
      obtain ⟨i_2, hw⟩ := hw
      refine z_iald hx hb hK.1 hP 1 0 rfl rfl i_2 dX9_wrong_26 (k := ((((10 : Int32) + x2) - (1 : Int32))).toNatClampNeg) rfl ?_
      refine lv_aload_n hx hb dX9_wrong_27 rfl (lv_at hl 0 rfl) ?_
      refine va_get (D := G.1) (ci := 9) (v := .ref h_s) (C := RX9) (T := TX9) (N := 14) hx hb hts in_X9 hown hK.1 hP 0 rfl rfl 0 (by decide) (hts _ q817) (fun _ h9 => h9) rfl dX9_wrong_28 ?_
      refine lv_bipush (v := (10 : Int32)) hx hb dX9_wrong_31 (by decide) ?_
      refine lv_iload_n hx hb dX9_wrong_33 rfl (lv_at hl 2 rfl) ?_
      refine lv_iadd hx hb dX9_wrong_34 ?_
      obtain ⟨i_3, hw⟩ := hw
      refine z_iald hx hb hK.1 hP 1 0 rfl rfl i_3 dX9_wrong_35 (k := (((10 : Int32) + x2)).toNatClampNeg) rfl ?_
      have hPc := hP.sub (ws' := [oc h 9 [.ref h_s, .ref h_images, .int kept, .ref h_tape, .int typed, .ref h_draft, .int atv, .ref h_items, .ref h_moved, .ref h_sizes, .ref h_lanes, .ref h_less, .ref h_aside, .ref h_order], ai G h_s 161 sv]) [0, 1] rfl
      have hDc := hD.sub (ws' := [oc h 9 [.ref h_s, .ref h_images, .int kept, .ref h_tape, .int typed, .ref h_draft, .int atv, .ref h_items, .ref h_moved, .ref h_sizes, .ref h_lanes, .ref h_less, .ref h_aside, .ref h_order], ai G h_s 161 sv]) [0, 1] (by decide) rfl
      have hFc := va_free (wc := [oc h 9 [.ref h_s, .ref h_images, .int kept, .ref h_tape, .int typed, .ref h_draft, .int atv, .ref h_items, .ref h_moved, .ref h_sizes, .ref h_lanes, .ref h_less, .ref h_aside, .ref h_order], ai G h_s 161 sv]) hD hS hA [0, 1] rfl
      refine va_calli (va_runV (As := [.int (sv ((((10 : Int32) + x2) - (1 : Int32))).toNatClampNeg), .int (sv (((10 : Int32) + x2)).toNatClampNeg)]) (rest := [.int x1]) ⟨hx, hb, hml, hown, hts⟩ (mt_X9_stoodBy l G h h_s h_images h_tape h_draft h_items h_moved h_sizes h_lanes h_less h_aside h_order H.size kept typed atv sv (sv ((((10 : Int32) + x2) - (1 : Int32))).toNatClampNeg) (sv (((10 : Int32) + x2)).toNatClampNeg) _ hw) (cwV 2 hts (lw_V q891 q893 qs30 q65 q894) rfl rfl rfl (by decide +kernel) ⟨Nat.le_of_ble_eq_true rfl, Nat.le_of_ble_eq_true rfl⟩) ⟨fun a U g mk q => by obtain ⟨q0, q1, qP, qK, qD⟩ := q; exact ⟨q0, q1, qP, qK.call, qD⟩, va_recv hK.1 hP (ci := 9) (q0 := 0) rfl rfl, fun U hU hW => ⟨rfl, by rw [hU], by rw [hU]; exact hPc, hK.warm hW, hDc.weaken (fun _ _ _ _ => trivial)⟩⟩ rfl rfl hl.1 rfl (lv_room (Nat.le_of_ble_eq_true rfl)) dX9_wrong_36 ⟨Nat.le_of_ble_eq_true rfl, Nat.le_of_ble_eq_true rfl⟩) hS (fun q _ h => hFc q h) hFc (fun r_4 _ t H1 locs ht hvm hw hB hz1 hk1 hS => ?_)
      obtain ⟨hP1, hD1⟩ := hB
      rw [ht] at hP1
      obtain ⟨hP, hD⟩ := va_join (wr := []) (w1 := [oc h 9 [.ref h_s, .ref h_images, .int kept, .ref h_tape, .int typed, .ref h_draft, .int atv, .ref h_items, .ref h_moved, .ref h_sizes, .ref h_lanes, .ref h_less, .ref h_aside, .ref h_order], ai G h_s 161 sv]) hP hD [0, 1] [] rfl rfl (by decide) (by decide) hk1 hFc hP1 hD1
      clear hPc hDc hFc hP1 hD1 hz1 hk1 hvm
      generalize H1 = H at hP hS ⊢
      have hP : va_P G.1 gCl [oc h 9 [.ref h_s, .ref h_images, .int kept, .ref h_tape, .int typed, .ref h_draft, .int atv, .ref h_items, .ref h_moved, .ref h_sizes, .ref h_lanes, .ref h_less, .ref h_aside, .ref h_order], ai G h_s 161 sv] H := hP
      have hD : va_D A [oc h 9 [.ref h_s, .ref h_images, .int kept, .ref h_tape, .int typed, .ref h_draft, .int atv, .ref h_items, .ref h_moved, .ref h_sizes, .ref h_lanes, .ref h_less, .ref h_aside, .ref h_order], ai G h_s 161 sv] := hD
      refine lv_if_eq (tgt := 46) hx hb dX9_wrong_39 (by decide) (fun c_5 => ?_) (fun c_5 => ?_)
      · replace hw := hw.1 c_5
        refine lv_iconst (v := (1 : Int32)) hx hb dX9_wrong_46 (by decide) ?_
        refine lv_iadd hx hb dX9_wrong_47 ?_
        refine lv_topi (fun v_6 ev_6 => ?_)
        replace hw := hw v_6 ev_6
        refine lv_istore_n (lv' := [(1, .int v_6), (0, .ref h), (2, .int x2)]) hx hb dX9_wrong_48 rfl hl (by decide) rfl (fun ls hl => ?_)
        refine lv_iinc (v := (x2 + (1 : Int32))) (lv' := [(2, .int (x2 + (1 : Int32))), (1, .int v_6), (0, .ref h)]) hx hb dX9_wrong_49 hl (k := 2) rfl rfl (by decide) rfl (fun ls hl => ?_)
        refine lv_goto (tgt := 4) hx hb dX9_wrong_52 (by decide) ?_
        exact ih v_6 (x2 + (1 : Int32)) H locs hP hD hS ls (lv_sub hl [2, 1, 0] rfl) hw
      · replace hw := hw.2 c_5
        refine lv_iconst (v := (0 : Int32)) hx hb dX9_wrong_42 (by decide) ?_
        refine lv_goto (tgt := 47) hx hb dX9_wrong_43 (by decide) ?_
        refine lv_iadd hx hb dX9_wrong_47 ?_
        refine lv_topi (fun v_7 ev_7 => ?_)
        replace hw := hw v_7 ev_7
        refine lv_istore_n (lv' := [(1, .int v_7), (0, .ref h), (2, .int x2)]) hx hb dX9_wrong_48 rfl hl (by decide) rfl (fun ls hl => ?_)
        refine lv_iinc (v := (x2 + (1 : Int32))) (lv' := [(2, .int (x2 + (1 : Int32))), (1, .int v_7), (0, .ref h)]) hx hb dX9_wrong_49 hl (k := 2) rfl rfl (by decide) rfl (fun ls hl => ?_)
        refine lv_goto (tgt := 4) hx hb dX9_wrong_52 (by decide) ?_
        exact ih v_7 (x2 + (1 : Int32)) H locs hP hD hS ls (lv_sub hl [2, 1, 0] rfl) hw
def wp_X9_wrong (sv : Nat → Int32) (Q : Int32 → Prop) : Prop :=
  (∃ j_ : Nat, wp_X9_wrong_4 sv Q  j_ (0 : Int32) (1 : Int32))
set_option maxHeartbeats 4000000 in
theorem mt_X9_wrong (l : Launch) (G : GT) (h h_s h_images h_tape h_draft h_items h_moved h_sizes h_lanes h_less h_aside h_order : Nat) (sz : Nat) (kept : Int32) (typed : Int32) (atv : Int32) (sv : Nat → Int32) (Q : Int32 → Prop) (hw : wp_X9_wrong sv Q) : Met l yX9_wrong (ws_ yX9_wrong cX9_wrong 3 (some .int)) ({ frames := 1, cells := 0, slots := 0, locals := 29 } : Room) (va_Pc [.ref h] (fun U => U.heap.size = sz ∧ va_P G.1 gCl [oc h 9 [.ref h_s, .ref h_images, .int kept, .ref h_tape, .int typed, .ref h_draft, .int atv, .ref h_items, .ref h_moved, .ref h_sizes, .ref h_lanes, .ref h_less, .ref h_aside, .ref h_order], ai G h_s 161 sv] U.heap ∧ gK G U ∧ va_D (fun _ => True) [oc h 9 [.ref h_s, .ref h_images, .int kept, .ref h_tape, .int typed, .ref h_draft, .int atv, .ref h_items, .ref h_moved, .ref h_sizes, .ref h_lanes, .ref h_less, .ref h_aside, .ref h_order], ai G h_s 161 sv])) ((fun A => (va_Qi (fun (r : Int32) (u : Unit) => Q r ) (fun u t => va_P G.1 gCl [oc h 9 [.ref h_s, .ref h_images, .int kept, .ref h_tape, .int typed, .ref h_draft, .int atv, .ref h_items, .ref h_moved, .ref h_sizes, .ref h_lanes, .ref h_less, .ref h_aside, .ref h_order], ai G h_s 161 sv] t.heap ∧ va_D A [oc h 9 [.ref h_s, .ref h_images, .int kept, .ref h_tape, .int typed, .ref h_draft, .int atv, .ref h_items, .ref h_moved, .ref h_sizes, .ref h_lanes, .ref h_less, .ref h_aside, .ref h_order], ai G h_s 161 sv]) A)) (va_A [oc h 9 [.ref h_s, .ref h_images, .int kept, .ref h_tape, .int typed, .ref h_draft, .int atv, .ref h_items, .ref h_moved, .ref h_sizes, .ref h_lanes, .ref h_less, .ref h_aside, .ref h_order], ai G h_s 161 sv] sz)) 0 0 (va_A [oc h 9 [.ref h_s, .ref h_images, .int kept, .ref h_tape, .int typed, .ref h_draft, .int atv, .ref h_items, .ref h_moved, .ref h_sizes, .ref h_lanes, .ref h_less, .ref h_aside, .ref h_order], ai G h_s 161 sv] sz) := by
  refine Met.ofW (cc := cX9_wrong) (maxL := 3) (ret := (some .int)) (by decide) rfl ?_
  intro p e s m args below meth c s₁ B hml hv
  obtain ⟨rfl, hsz, hP, hK, hD0⟩ := hv
  have hx := B.exec
  have hb := B.bytes
  have hr := B.returns
  have hts := atoms_spec (ws := (ws_ yX9_wrong cX9_wrong 3 (some .int))) B.pre
  have hts : ∀ w ∈ lw_all, w.before _ s = true := fun w h => hts w (List.mem_cons_of_mem _ h)
  have hown : s.vm.findClass RX9 = some m.cls := findClass_of_methodNamed B.named
  have hlocks := B.notSynchronized
  subst hsz
  have hD := hD0.self (sz := s.heap.size)
  generalize hAe : va_A [oc h 9 [.ref h_s, .ref h_images, .int kept, .ref h_tape, .int typed, .ref h_draft, .int atv, .ref h_items, .ref h_moved, .ref h_sizes, .ref h_lanes, .ref h_less, .ref h_aside, .ref h_order], ai G h_s 161 sv] s.heap.size = A at hD ⊢
  have hA : ∀ q : Nat, s.heap.size ≤ q → A q := fun q h => by rw [← hAe]; exact Or.inr h
  have hS : va_S A s.heap s.heap [] := va_S.rf
  have C : Cx p s m meth c cX9_wrong 3 (some .int) RX9 ([.ref h] : List Value).toArray G A := ⟨hx, hb, hr, hlocks, hml, hown, hts, hK, hA⟩
  have hl := lv_entry ([.ref h]) (n := 3) (Nat.le_of_ble_eq_true rfl)
  rw [lg_entry_eq]
  generalize (lg_sl ([.ref h]) ++ List.replicate (3 - (lg_sl ([.ref h])).length) Slot.unset).toArray = ls at hl ⊢
  have hl : lv_has ls 3 [(0, .ref h)] := hl
  unfold wp_X9_wrong at hw
  refine lv_iconst (v := (0 : Int32)) hx hb dX9_wrong_0 (by decide) ?_
  refine lv_istore_n (lv' := [(1, .int (0 : Int32)), (0, .ref h)]) hx hb dX9_wrong_1 rfl hl (by decide) rfl (fun ls hl => ?_)
  refine lv_iconst (v := (1 : Int32)) hx hb dX9_wrong_2 (by decide) ?_
  refine lv_istore_n (lv' := [(2, .int (1 : Int32)), (1, .int (0 : Int32)), (0, .ref h)]) hx hb dX9_wrong_3 rfl hl (by decide) rfl (fun ls hl => ?_)
  obtain ⟨j_, hw⟩ := hw
  exact wk_X9_wrong_4 h h_s h_images h_tape h_draft h_items h_moved h_sizes h_lanes h_less h_aside h_order kept typed atv sv  Q  C  j_ (0 : Int32) (1 : Int32) s.heap [] hP hD hS ls (lv_sub hl [2, 1, 0] rfl) hw
/-! BattleBenchModel.count(I)I -/
def wp_X9_count (sv : Nat → Int32) (p1 : Int32) (Q : Int32 → Prop) : Prop :=
  ((p1 = (0 : Int32) → Q (sv 0)) ∧ (p1 = (1 : Int32) → Q (sv 1)) ∧ (p1 = (2 : Int32) → Q (sv 2)) ∧ (p1 = (3 : Int32) → wp_X9_bench sv  (fun r_5 => Q r_5)) ∧ (p1 = (4 : Int32) → wp_X9_lives sv  (fun r_7 => Q r_7)) ∧ (p1 = (5 : Int32) → wp_X9_wrong sv  (fun r_9 => Q r_9)) ∧ (p1 = (6 : Int32) → Q (sv 40)) ∧ (¬ p1 = (0 : Int32) ∧ ¬ p1 = (1 : Int32) ∧ ¬ p1 = (2 : Int32) ∧ ¬ p1 = (3 : Int32) ∧ ¬ p1 = (4 : Int32) ∧ ¬ p1 = (5 : Int32) ∧ ¬ p1 = (6 : Int32) → Q (-1 : Int32)))
set_option maxHeartbeats 4000000 in
theorem mt_X9_count (l : Launch) (G : GT) (h h_s h_images h_tape h_draft h_items h_moved h_sizes h_lanes h_less h_aside h_order : Nat) (sz : Nat) (kept : Int32) (typed : Int32) (atv : Int32) (sv : Nat → Int32) (p1 : Int32) (Q : Int32 → Prop) (hw : wp_X9_count sv p1 Q) : Met l yX9_count (ws_ yX9_count cX9_count 2 (some .int)) ({ frames := 2, cells := 0, slots := 0, locals := 51 } : Room) (va_Pc [.ref h, .int p1] (fun U => U.heap.size = sz ∧ va_P G.1 gCl [oc h 9 [.ref h_s, .ref h_images, .int kept, .ref h_tape, .int typed, .ref h_draft, .int atv, .ref h_items, .ref h_moved, .ref h_sizes, .ref h_lanes, .ref h_less, .ref h_aside, .ref h_order], ai G h_s 161 sv] U.heap ∧ gK G U ∧ va_D (fun _ => True) [oc h 9 [.ref h_s, .ref h_images, .int kept, .ref h_tape, .int typed, .ref h_draft, .int atv, .ref h_items, .ref h_moved, .ref h_sizes, .ref h_lanes, .ref h_less, .ref h_aside, .ref h_order], ai G h_s 161 sv])) ((fun A => (va_Qi (fun (r : Int32) (u : Unit) => Q r ) (fun u t => va_P G.1 gCl [oc h 9 [.ref h_s, .ref h_images, .int kept, .ref h_tape, .int typed, .ref h_draft, .int atv, .ref h_items, .ref h_moved, .ref h_sizes, .ref h_lanes, .ref h_less, .ref h_aside, .ref h_order], ai G h_s 161 sv] t.heap ∧ va_D A [oc h 9 [.ref h_s, .ref h_images, .int kept, .ref h_tape, .int typed, .ref h_draft, .int atv, .ref h_items, .ref h_moved, .ref h_sizes, .ref h_lanes, .ref h_less, .ref h_aside, .ref h_order], ai G h_s 161 sv]) A)) (va_A [oc h 9 [.ref h_s, .ref h_images, .int kept, .ref h_tape, .int typed, .ref h_draft, .int atv, .ref h_items, .ref h_moved, .ref h_sizes, .ref h_lanes, .ref h_less, .ref h_aside, .ref h_order], ai G h_s 161 sv] sz)) 0 0 (va_A [oc h 9 [.ref h_s, .ref h_images, .int kept, .ref h_tape, .int typed, .ref h_draft, .int atv, .ref h_items, .ref h_moved, .ref h_sizes, .ref h_lanes, .ref h_less, .ref h_aside, .ref h_order], ai G h_s 161 sv] sz) := by
  refine Met.ofW (cc := cX9_count) (maxL := 2) (ret := (some .int)) (by decide) rfl ?_
  intro p e s m args below meth c s₁ B hml hv
  obtain ⟨rfl, hsz, hP, hK, hD0⟩ := hv
  have hx := B.exec
  have hb := B.bytes
  have hr := B.returns
  have hts := atoms_spec (ws := (ws_ yX9_count cX9_count 2 (some .int))) B.pre
  have hts : ∀ w ∈ lw_all, w.before _ s = true := fun w h => hts w (List.mem_cons_of_mem _ h)
  have hown : s.vm.findClass RX9 = some m.cls := findClass_of_methodNamed B.named
  have hlocks := B.notSynchronized
  subst hsz
  have hD := hD0.self (sz := s.heap.size)
  generalize hAe : va_A [oc h 9 [.ref h_s, .ref h_images, .int kept, .ref h_tape, .int typed, .ref h_draft, .int atv, .ref h_items, .ref h_moved, .ref h_sizes, .ref h_lanes, .ref h_less, .ref h_aside, .ref h_order], ai G h_s 161 sv] s.heap.size = A at hD ⊢
  have hA : ∀ q : Nat, s.heap.size ≤ q → A q := fun q h => by rw [← hAe]; exact Or.inr h
  have hS : va_S A s.heap s.heap [] := va_S.rf
  have C : Cx p s m meth c cX9_count 2 (some .int) RX9 ([.ref h, .int p1] : List Value).toArray G A := ⟨hx, hb, hr, hlocks, hml, hown, hts, hK, hA⟩
  have hl := lv_entry ([.ref h, .int p1]) (n := 2) (Nat.le_of_ble_eq_true rfl)
  rw [lg_entry_eq]
  generalize (lg_sl ([.ref h, .int p1]) ++ List.replicate (2 - (lg_sl ([.ref h, .int p1])).length) Slot.unset).toArray = ls at hl ⊢
  have hl : lv_has ls 2 [(0, .ref h), (1, .int p1)] := hl
  unfold wp_X9_count at hw
  refine lv_iload_n hx hb dX9_count_0 rfl (lv_at hl 1 rfl) ?_
  by_cases c_1 : p1 = (0 : Int32)
  · replace hw := hw.1 c_1
    refine z_tabIn (k := (0 : Int32)) (off := 43) (tgt := 44) hx hb dX9_count_1 c_1 (by decide) rfl (by decide) ?_
    refine lv_aload_n hx hb dX9_count_44 rfl (lv_at hl 0 rfl) ?_
    refine va_get (D := G.1) (ci := 9) (v := .ref h_s) (C := RX9) (T := TX9) (N := 14) hx hb hts in_X9 hown hK.1 hP 0 rfl rfl 0 (by decide) (hts _ q817) (fun _ h9 => h9) rfl dX9_count_45 ?_
    refine lv_iconst (v := (0 : Int32)) hx hb dX9_count_48 (by decide) ?_
    refine z_iald hx hb hK.1 hP 1 0 rfl rfl (vin_l (by decide +kernel)) dX9_count_49 (k := 0) rfl ?_
    have hP9 := hP
    have hD9 := hD
    exact W.iret (v := (sv 0)) hx hb hr (fun t ht hW => ⟨⟨(sv 0), (), rfl, hw, by rw [ht]; exact hP9, hD9⟩, hS.F ht⟩) hS.2.2 dX9_count_50
  by_cases c_2 : p1 = (1 : Int32)
  · replace hw := hw.2.1 c_2
    refine z_tabIn (k := (1 : Int32)) (off := 50) (tgt := 51) hx hb dX9_count_1 c_2 (by decide) rfl (by decide) ?_
    refine lv_aload_n hx hb dX9_count_51 rfl (lv_at hl 0 rfl) ?_
    refine va_get (D := G.1) (ci := 9) (v := .ref h_s) (C := RX9) (T := TX9) (N := 14) hx hb hts in_X9 hown hK.1 hP 0 rfl rfl 0 (by decide) (hts _ q817) (fun _ h9 => h9) rfl dX9_count_52 ?_
    refine lv_iconst (v := (1 : Int32)) hx hb dX9_count_55 (by decide) ?_
    refine z_iald hx hb hK.1 hP 1 0 rfl rfl (vin_l (by decide +kernel)) dX9_count_56 (k := 1) rfl ?_
    have hP9 := hP
    have hD9 := hD
    exact W.iret (v := (sv 1)) hx hb hr (fun t ht hW => ⟨⟨(sv 1), (), rfl, hw, by rw [ht]; exact hP9, hD9⟩, hS.F ht⟩) hS.2.2 dX9_count_57
  by_cases c_3 : p1 = (2 : Int32)
  · replace hw := hw.2.2.1 c_3
    refine z_tabIn (k := (2 : Int32)) (off := 57) (tgt := 58) hx hb dX9_count_1 c_3 (by decide) rfl (by decide) ?_
    refine lv_aload_n hx hb dX9_count_58 rfl (lv_at hl 0 rfl) ?_
    refine va_get (D := G.1) (ci := 9) (v := .ref h_s) (C := RX9) (T := TX9) (N := 14) hx hb hts in_X9 hown hK.1 hP 0 rfl rfl 0 (by decide) (hts _ q817) (fun _ h9 => h9) rfl dX9_count_59 ?_
    refine lv_iconst (v := (2 : Int32)) hx hb dX9_count_62 (by decide) ?_
    refine z_iald hx hb hK.1 hP 1 0 rfl rfl (vin_l (by decide +kernel)) dX9_count_63 (k := 2) rfl ?_
    have hP9 := hP
    have hD9 := hD
    exact W.iret (v := (sv 2)) hx hb hr (fun t ht hW => ⟨⟨(sv 2), (), rfl, hw, by rw [ht]; exact hP9, hD9⟩, hS.F ht⟩) hS.2.2 dX9_count_64
  by_cases c_4 : p1 = (3 : Int32)
  · replace hw := hw.2.2.2.1 c_4
    refine z_tabIn (k := (3 : Int32)) (off := 64) (tgt := 65) hx hb dX9_count_1 c_4 (by decide) rfl (by decide) ?_
    refine lv_aload_n hx hb dX9_count_65 rfl (lv_at hl 0 rfl) ?_
    have hPc := hP.sub (ws' := [oc h 9 [.ref h_s, .ref h_images, .int kept, .ref h_tape, .int typed, .ref h_draft, .int atv, .ref h_items, .ref h_moved, .ref h_sizes, .ref h_lanes, .ref h_less, .ref h_aside, .ref h_order], ai G h_s 161 sv]) [0, 1] rfl
    have hDc := hD.sub (ws' := [oc h 9 [.ref h_s, .ref h_images, .int kept, .ref h_tape, .int typed, .ref h_draft, .int atv, .ref h_items, .ref h_moved, .ref h_sizes, .ref h_lanes, .ref h_less, .ref h_aside, .ref h_order], ai G h_s 161 sv]) [0, 1] (by decide) rfl
    have hFc := va_free (wc := [oc h 9 [.ref h_s, .ref h_images, .int kept, .ref h_tape, .int typed, .ref h_draft, .int atv, .ref h_items, .ref h_moved, .ref h_sizes, .ref h_lanes, .ref h_less, .ref h_aside, .ref h_order], ai G h_s 161 sv]) hD hS hA [0, 1] rfl
    refine va_calli (va_runV (As := []) (rest := []) ⟨hx, hb, hml, hown, hts⟩ (mt_X9_bench l G h h_s h_images h_tape h_draft h_items h_moved h_sizes h_lanes h_less h_aside h_order s.heap.size kept typed atv sv  _ hw) (cwV 0 hts (lw_V q952 q954 qs39 q65 q955) rfl rfl rfl (by decide +kernel) ⟨Nat.le_of_ble_eq_true rfl, Nat.le_of_ble_eq_true rfl⟩) ⟨fun a U g mk q => by obtain ⟨q0, q1, qP, qK, qD⟩ := q; exact ⟨q0, q1, qP, qK.call, qD⟩, va_recv hK.1 hP (ci := 9) (q0 := 0) rfl rfl, fun U hU hW => ⟨rfl, by rw [hU], by rw [hU]; exact hPc, hK.warm hW, hDc.weaken (fun _ _ _ _ => trivial)⟩⟩ rfl rfl hl.1 rfl (lv_room (Nat.le_of_ble_eq_true rfl)) dX9_count_66 ⟨Nat.le_of_ble_eq_true rfl, Nat.le_of_ble_eq_true rfl⟩) hS (fun q _ h => hFc q h) hFc (fun r_5 _ t H1 locs ht hvm hw hB hz1 hk1 hS => ?_)
    obtain ⟨hP1, hD1⟩ := hB
    rw [ht] at hP1
    obtain ⟨hP, hD⟩ := va_join (wr := []) (w1 := [oc h 9 [.ref h_s, .ref h_images, .int kept, .ref h_tape, .int typed, .ref h_draft, .int atv, .ref h_items, .ref h_moved, .ref h_sizes, .ref h_lanes, .ref h_less, .ref h_aside, .ref h_order], ai G h_s 161 sv]) hP hD [0, 1] [] rfl rfl (by decide) (by decide) hk1 hFc hP1 hD1
    clear hPc hDc hFc hP1 hD1 hz1 hk1 hvm
    generalize H1 = H at hP hS ⊢
    have hP : va_P G.1 gCl [oc h 9 [.ref h_s, .ref h_images, .int kept, .ref h_tape, .int typed, .ref h_draft, .int atv, .ref h_items, .ref h_moved, .ref h_sizes, .ref h_lanes, .ref h_less, .ref h_aside, .ref h_order], ai G h_s 161 sv] H := hP
    have hD : va_D A [oc h 9 [.ref h_s, .ref h_images, .int kept, .ref h_tape, .int typed, .ref h_draft, .int atv, .ref h_items, .ref h_moved, .ref h_sizes, .ref h_lanes, .ref h_less, .ref h_aside, .ref h_order], ai G h_s 161 sv] := hD
    have hP9 := hP
    have hD9 := hD
    exact W.iret (v := r_5) hx hb hr (fun t ht hW => ⟨⟨r_5, (), rfl, hw, by rw [ht]; exact hP9, hD9⟩, hS.F ht⟩) hS.2.2 dX9_count_69
  by_cases c_6 : p1 = (4 : Int32)
  · replace hw := hw.2.2.2.2.1 c_6
    refine z_tabIn (k := (4 : Int32)) (off := 69) (tgt := 70) hx hb dX9_count_1 c_6 (by decide) rfl (by decide) ?_
    refine lv_aload_n hx hb dX9_count_70 rfl (lv_at hl 0 rfl) ?_
    have hPc := hP.sub (ws' := [oc h 9 [.ref h_s, .ref h_images, .int kept, .ref h_tape, .int typed, .ref h_draft, .int atv, .ref h_items, .ref h_moved, .ref h_sizes, .ref h_lanes, .ref h_less, .ref h_aside, .ref h_order], ai G h_s 161 sv]) [0, 1] rfl
    have hDc := hD.sub (ws' := [oc h 9 [.ref h_s, .ref h_images, .int kept, .ref h_tape, .int typed, .ref h_draft, .int atv, .ref h_items, .ref h_moved, .ref h_sizes, .ref h_lanes, .ref h_less, .ref h_aside, .ref h_order], ai G h_s 161 sv]) [0, 1] (by decide) rfl
    have hFc := va_free (wc := [oc h 9 [.ref h_s, .ref h_images, .int kept, .ref h_tape, .int typed, .ref h_draft, .int atv, .ref h_items, .ref h_moved, .ref h_sizes, .ref h_lanes, .ref h_less, .ref h_aside, .ref h_order], ai G h_s 161 sv]) hD hS hA [0, 1] rfl
    refine va_calli (va_runV (As := []) (rest := []) ⟨hx, hb, hml, hown, hts⟩ (mt_X9_lives l G h h_s h_images h_tape h_draft h_items h_moved h_sizes h_lanes h_less h_aside h_order s.heap.size kept typed atv sv  _ hw) (cwV 0 hts (lw_V q956 q958 qs40 q65 q959) rfl rfl rfl (by decide +kernel) ⟨Nat.le_of_ble_eq_true rfl, Nat.le_of_ble_eq_true rfl⟩) ⟨fun a U g mk q => by obtain ⟨q0, q1, qP, qK, qD⟩ := q; exact ⟨q0, q1, qP, qK.call, qD⟩, va_recv hK.1 hP (ci := 9) (q0 := 0) rfl rfl, fun U hU hW => ⟨rfl, by rw [hU], by rw [hU]; exact hPc, hK.warm hW, hDc.weaken (fun _ _ _ _ => trivial)⟩⟩ rfl rfl hl.1 rfl (lv_room (Nat.le_of_ble_eq_true rfl)) dX9_count_71 ⟨Nat.le_of_ble_eq_true rfl, Nat.le_of_ble_eq_true rfl⟩) hS (fun q _ h => hFc q h) hFc (fun r_7 _ t H1 locs ht hvm hw hB hz1 hk1 hS => ?_)
    obtain ⟨hP1, hD1⟩ := hB
    rw [ht] at hP1
    obtain ⟨hP, hD⟩ := va_join (wr := []) (w1 := [oc h 9 [.ref h_s, .ref h_images, .int kept, .ref h_tape, .int typed, .ref h_draft, .int atv, .ref h_items, .ref h_moved, .ref h_sizes, .ref h_lanes, .ref h_less, .ref h_aside, .ref h_order], ai G h_s 161 sv]) hP hD [0, 1] [] rfl rfl (by decide) (by decide) hk1 hFc hP1 hD1
    clear hPc hDc hFc hP1 hD1 hz1 hk1 hvm
    generalize H1 = H at hP hS ⊢
    have hP : va_P G.1 gCl [oc h 9 [.ref h_s, .ref h_images, .int kept, .ref h_tape, .int typed, .ref h_draft, .int atv, .ref h_items, .ref h_moved, .ref h_sizes, .ref h_lanes, .ref h_less, .ref h_aside, .ref h_order], ai G h_s 161 sv] H := hP
    have hD : va_D A [oc h 9 [.ref h_s, .ref h_images, .int kept, .ref h_tape, .int typed, .ref h_draft, .int atv, .ref h_items, .ref h_moved, .ref h_sizes, .ref h_lanes, .ref h_less, .ref h_aside, .ref h_order], ai G h_s 161 sv] := hD
    have hP9 := hP
    have hD9 := hD
    exact W.iret (v := r_7) hx hb hr (fun t ht hW => ⟨⟨r_7, (), rfl, hw, by rw [ht]; exact hP9, hD9⟩, hS.F ht⟩) hS.2.2 dX9_count_74
  by_cases c_8 : p1 = (5 : Int32)
  · replace hw := hw.2.2.2.2.2.1 c_8
    refine z_tabIn (k := (5 : Int32)) (off := 74) (tgt := 75) hx hb dX9_count_1 c_8 (by decide) rfl (by decide) ?_
    refine lv_aload_n hx hb dX9_count_75 rfl (lv_at hl 0 rfl) ?_
    have hPc := hP.sub (ws' := [oc h 9 [.ref h_s, .ref h_images, .int kept, .ref h_tape, .int typed, .ref h_draft, .int atv, .ref h_items, .ref h_moved, .ref h_sizes, .ref h_lanes, .ref h_less, .ref h_aside, .ref h_order], ai G h_s 161 sv]) [0, 1] rfl
    have hDc := hD.sub (ws' := [oc h 9 [.ref h_s, .ref h_images, .int kept, .ref h_tape, .int typed, .ref h_draft, .int atv, .ref h_items, .ref h_moved, .ref h_sizes, .ref h_lanes, .ref h_less, .ref h_aside, .ref h_order], ai G h_s 161 sv]) [0, 1] (by decide) rfl
    have hFc := va_free (wc := [oc h 9 [.ref h_s, .ref h_images, .int kept, .ref h_tape, .int typed, .ref h_draft, .int atv, .ref h_items, .ref h_moved, .ref h_sizes, .ref h_lanes, .ref h_less, .ref h_aside, .ref h_order], ai G h_s 161 sv]) hD hS hA [0, 1] rfl
    refine va_calli (va_runV (As := []) (rest := []) ⟨hx, hb, hml, hown, hts⟩ (mt_X9_wrong l G h h_s h_images h_tape h_draft h_items h_moved h_sizes h_lanes h_less h_aside h_order s.heap.size kept typed atv sv  _ hw) (cwV 0 hts (lw_V q960 q962 qs41 q65 q963) rfl rfl rfl (by decide +kernel) ⟨Nat.le_of_ble_eq_true rfl, Nat.le_of_ble_eq_true rfl⟩) ⟨fun a U g mk q => by obtain ⟨q0, q1, qP, qK, qD⟩ := q; exact ⟨q0, q1, qP, qK.call, qD⟩, va_recv hK.1 hP (ci := 9) (q0 := 0) rfl rfl, fun U hU hW => ⟨rfl, by rw [hU], by rw [hU]; exact hPc, hK.warm hW, hDc.weaken (fun _ _ _ _ => trivial)⟩⟩ rfl rfl hl.1 rfl (lv_room (Nat.le_of_ble_eq_true rfl)) dX9_count_76 ⟨Nat.le_of_ble_eq_true rfl, Nat.le_of_ble_eq_true rfl⟩) hS (fun q _ h => hFc q h) hFc (fun r_9 _ t H1 locs ht hvm hw hB hz1 hk1 hS => ?_)
    obtain ⟨hP1, hD1⟩ := hB
    rw [ht] at hP1
    obtain ⟨hP, hD⟩ := va_join (wr := []) (w1 := [oc h 9 [.ref h_s, .ref h_images, .int kept, .ref h_tape, .int typed, .ref h_draft, .int atv, .ref h_items, .ref h_moved, .ref h_sizes, .ref h_lanes, .ref h_less, .ref h_aside, .ref h_order], ai G h_s 161 sv]) hP hD [0, 1] [] rfl rfl (by decide) (by decide) hk1 hFc hP1 hD1
    clear hPc hDc hFc hP1 hD1 hz1 hk1 hvm
    generalize H1 = H at hP hS ⊢
    have hP : va_P G.1 gCl [oc h 9 [.ref h_s, .ref h_images, .int kept, .ref h_tape, .int typed, .ref h_draft, .int atv, .ref h_items, .ref h_moved, .ref h_sizes, .ref h_lanes, .ref h_less, .ref h_aside, .ref h_order], ai G h_s 161 sv] H := hP
    have hD : va_D A [oc h 9 [.ref h_s, .ref h_images, .int kept, .ref h_tape, .int typed, .ref h_draft, .int atv, .ref h_items, .ref h_moved, .ref h_sizes, .ref h_lanes, .ref h_less, .ref h_aside, .ref h_order], ai G h_s 161 sv] := hD
    have hP9 := hP
    have hD9 := hD
    exact W.iret (v := r_9) hx hb hr (fun t ht hW => ⟨⟨r_9, (), rfl, hw, by rw [ht]; exact hP9, hD9⟩, hS.F ht⟩) hS.2.2 dX9_count_79
  by_cases c_10 : p1 = (6 : Int32)
  · replace hw := hw.2.2.2.2.2.2.1 c_10
    refine z_tabIn (k := (6 : Int32)) (off := 79) (tgt := 80) hx hb dX9_count_1 c_10 (by decide) rfl (by decide) ?_
    refine lv_aload_n hx hb dX9_count_80 rfl (lv_at hl 0 rfl) ?_
    refine va_get (D := G.1) (ci := 9) (v := .ref h_s) (C := RX9) (T := TX9) (N := 14) hx hb hts in_X9 hown hK.1 hP 0 rfl rfl 0 (by decide) (hts _ q817) (fun _ h9 => h9) rfl dX9_count_81 ?_
    refine lv_bipush (v := (40 : Int32)) hx hb dX9_count_84 (by decide) ?_
    refine z_iald hx hb hK.1 hP 1 0 rfl rfl (vin_l (by decide +kernel)) dX9_count_86 (k := 40) rfl ?_
    have hP9 := hP
    have hD9 := hD
    exact W.iret (v := (sv 40)) hx hb hr (fun t ht hW => ⟨⟨(sv 40), (), rfl, hw, by rw [ht]; exact hP9, hD9⟩, hS.F ht⟩) hS.2.2 dX9_count_87
  replace hw := hw.2.2.2.2.2.2.2 ⟨c_1, c_2, c_3, c_4, c_6, c_8, c_10⟩
  refine lv_tableOut (tgt := 88) hx hb dX9_count_1 (z_tabOut (0) 7 [(0 : Int32), (1 : Int32), (2 : Int32), (3 : Int32), (4 : Int32), (5 : Int32), (6 : Int32)] (by decide +kernel) (List.forall_mem_cons.mpr ⟨c_1, (List.forall_mem_cons.mpr ⟨c_2, (List.forall_mem_cons.mpr ⟨c_3, (List.forall_mem_cons.mpr ⟨c_4, (List.forall_mem_cons.mpr ⟨c_6, (List.forall_mem_cons.mpr ⟨c_8, (List.forall_mem_cons.mpr ⟨c_10, fun _ h9 => absurd h9 List.not_mem_nil⟩)⟩)⟩)⟩)⟩)⟩)⟩)) (by decide) ?_
  refine lv_iconst (v := (-1 : Int32)) hx hb dX9_count_88 (by decide) ?_
  have hP9 := hP
  have hD9 := hD
  exact W.iret (v := (-1 : Int32)) hx hb hr (fun t ht hW => ⟨⟨(-1 : Int32), (), rfl, hw, by rw [ht]; exact hP9, hD9⟩, hS.F ht⟩) hS.2.2 dX9_count_89
/-! BattleBenchModel.keeps()V -/
def wp_X9_keeps_56  (Q : ((Nat → Int32)) → Prop)  : Nat → (Nat → Int32) → Int32 → Prop
  | 0, _, _ => False
  | n + 1, sv, x1 =>
    ((((15 : Int32) ≤ x1) → (∀ v_2 : Int32, v_2 = ((sv 40) + (1 : Int32)) → (∀ f_3 : Nat → Int32, f_3 = upd sv 40 v_2 → Q f_3))) ∧ (¬ ((15 : Int32) ≤ x1) → (vp_in ((1 : Int32) + x1) 161 ∧ (∀ v_5 : Int32, v_5 = (sv (((1 : Int32) + x1)).toNatClampNeg) → (vp_in (((41 : Int32) + ((15 : Int32) * (sv 40))) + x1) 161 ∧ ∀ f_7 : Nat → Int32, f_7 = upd sv ((((41 : Int32) + ((15 : Int32) * (sv 40))) + x1)).toNatClampNeg v_5 → wp_X9_keeps_56  Q  n f_7 (x1 + (1 : Int32)))))))
set_option maxHeartbeats 4000000 in
theorem wk_X9_keeps_56 {p : Program} {l : Launch} {e : Env} {s : State} {m : MethodId} {below : List Frame} {meth : Method} {c : Code} {args : Array Value} {G : GT} {A : Nat → Prop} (h h_s h_images h_tape h_draft h_items h_moved h_sizes h_lanes h_less h_aside h_order : Nat) (kept : Int32) (typed : Int32) (atv : Int32) (Q : ((Nat → Int32)) → Prop)  (C : Cx p s m meth c cX9_keeps 2 none RX9 args G A)  :
    ∀ (n : Nat), ∀  (sv : Nat → Int32) (x1 : Int32) (H : Heap) (locs : List Loc), va_P G.1 gCl [oc h 9 [.ref h_s, .ref h_images, .int kept, .ref h_tape, .int typed, .ref h_draft, .int atv, .ref h_items, .ref h_moved, .ref h_sizes, .ref h_lanes, .ref h_less, .ref h_aside, .ref h_order], ai G h_s 161 sv] H → va_D A [oc h 9 [.ref h_s, .ref h_images, .int kept, .ref h_tape, .int typed, .ref h_draft, .int atv, .ref h_items, .ref h_moved, .ref h_sizes, .ref h_lanes, .ref h_less, .ref h_aside, .ref h_order], ai G h_s 161 sv] → va_S A s.heap H locs → ∀ (ls : Array Slot), lv_has ls 2 [(0, .ref h), (1, .int x1)] → wp_X9_keeps_56  Q  n sv x1 → W p l e ({ frames := 0, cells := 0, slots := 0, locals := 0 } : Room) s m args below meth c H locs 0 0 (MQ below (va_Qv (fun (u : (Nat → Int32)) => Q u) (fun u t => va_P G.1 gCl [oc h 9 [.ref h_s, .ref h_images, .int kept, .ref h_tape, .int typed, .ref h_draft, .int atv, .ref h_items, .ref h_moved, .ref h_sizes, .ref h_lanes, .ref h_less, .ref h_aside, .ref h_order], ai G h_s 161 u] t.heap ∧ va_D A [oc h 9 [.ref h_s, .ref h_images, .int kept, .ref h_tape, .int typed, .ref h_draft, .int atv, .ref h_items, .ref h_moved, .ref h_sizes, .ref h_lanes, .ref h_less, .ref h_aside, .ref h_order], ai G h_s 161 u]) A) args s 0 0 A) (F0 m 56 ls []) := by
  have C9 := C
  obtain ⟨hx, hb, hr, hlocks, hml, hown, hts, hK, hA⟩ := C9
  intro n
  induction n with
  | zero => intro sv x1 H locs hP hD hS ls hl hw; exact False.elim hw
  | succ n ih =>
    intro sv x1 H locs hP hD hS ls hl hw
    unfold wp_X9_keeps_56 at hw
    refine lv_iload_n hx hb dX9_keeps_56 rfl (lv_at hl 1 rfl) ?_
    refine lv_bipush (v := (15 : Int32)) hx hb dX9_keeps_57 (by decide) ?_
    refine lv_icmp_ge (tgt := 96) hx hb dX9_keeps_59 (by decide) (fun c_1 => ?_) (fun c_1 => ?_)
    · replace hw := hw.1 c_1
      refine lv_aload_n hx hb dX9_keeps_96 rfl (lv_at hl 0 rfl) ?_
      refine va_get (D := G.1) (ci := 9) (v := .ref h_s) (C := RX9) (T := TX9) (N := 14) hx hb hts in_X9 hown hK.1 hP 0 rfl rfl 0 (by decide) (hts _ q817) (fun _ h9 => h9) rfl dX9_keeps_97 ?_
      refine lv_bipush (v := (40 : Int32)) hx hb dX9_keeps_100 (by decide) ?_
      refine lv_dup2_11 hx hb dX9_keeps_102 rfl rfl ?_
      refine z_iald hx hb hK.1 hP 1 0 rfl rfl (vin_l (by decide +kernel)) dX9_keeps_103 (k := 40) rfl ?_
      refine lv_iconst (v := (1 : Int32)) hx hb dX9_keeps_104 (by decide) ?_
      refine lv_iadd hx hb dX9_keeps_105 ?_
      refine lv_topi (fun v_2 ev_2 => ?_)
      replace hw := hw v_2 ev_2
      refine z_iast hx hb hK.1 hP hD hS 1 0 rfl rfl (vin_l (by decide +kernel)) dX9_keeps_106 (k := 40) rfl (fun f_3 ef_3 H locs hP hD hS => ?_)
      replace hw := hw f_3 ef_3
      have hP : va_P G.1 gCl [oc h 9 [.ref h_s, .ref h_images, .int kept, .ref h_tape, .int typed, .ref h_draft, .int atv, .ref h_items, .ref h_moved, .ref h_sizes, .ref h_lanes, .ref h_less, .ref h_aside, .ref h_order], ai G h_s 161 f_3] H := hP
      have hD : va_D A [oc h 9 [.ref h_s, .ref h_images, .int kept, .ref h_tape, .int typed, .ref h_draft, .int atv, .ref h_items, .ref h_moved, .ref h_sizes, .ref h_lanes, .ref h_less, .ref h_aside, .ref h_order], ai G h_s 161 f_3] := hD
      have hP9 := hP
      have hD9 := hD
      exact W.vret hx hb hr (fun t ht hW => ⟨⟨f_3, rfl, hw, by rw [ht]; exact hP9, hD9⟩, hS.F ht⟩) hS.2.2 dX9_keeps_107
    · replace hw := hw.2 c_1
      refine lv_aload_n hx hb dX9_keeps_62 rfl (lv_at hl 0 rfl) ?_
      refine va_get (D := G.1) (ci := 9) (v := .ref h_s) (C := RX9) (T := TX9) (N := 14) hx hb hts in_X9 hown hK.1 hP 0 rfl rfl 0 (by decide) (hts _ q817) (fun _ h9 => h9) rfl dX9_keeps_63 ?_
      refine lv_bipush (v := (41 : Int32)) hx hb dX9_keeps_66 (by decide) ?_
      refine lv_bipush (v := (15 : Int32)) hx hb dX9_keeps_68 (by decide) ?_
      refine lv_aload_n hx hb dX9_keeps_70 rfl (lv_at hl 0 rfl) ?_
      refine va_get (D := G.1) (ci := 9) (v := .ref h_s) (C := RX9) (T := TX9) (N := 14) hx hb hts in_X9 hown hK.1 hP 0 rfl rfl 0 (by decide) (hts _ q817) (fun _ h9 => h9) rfl dX9_keeps_71 ?_
      refine lv_bipush (v := (40 : Int32)) hx hb dX9_keeps_74 (by decide) ?_
      refine z_iald hx hb hK.1 hP 1 0 rfl rfl (vin_l (by decide +kernel)) dX9_keeps_76 (k := 40) rfl ?_
      refine lv_imul hx hb dX9_keeps_77 ?_
      refine lv_iadd hx hb dX9_keeps_78 ?_
      refine lv_iload_n hx hb dX9_keeps_79 rfl (lv_at hl 1 rfl) ?_
      refine lv_iadd hx hb dX9_keeps_80 ?_
      refine lv_aload_n hx hb dX9_keeps_81 rfl (lv_at hl 0 rfl) ?_
      refine va_get (D := G.1) (ci := 9) (v := .ref h_s) (C := RX9) (T := TX9) (N := 14) hx hb hts in_X9 hown hK.1 hP 0 rfl rfl 0 (by decide) (hts _ q817) (fun _ h9 => h9) rfl dX9_keeps_82 ?_
      refine lv_iconst (v := (1 : Int32)) hx hb dX9_keeps_85 (by decide) ?_
      refine lv_iload_n hx hb dX9_keeps_86 rfl (lv_at hl 1 rfl) ?_
      refine lv_iadd hx hb dX9_keeps_87 ?_
      obtain ⟨i_4, hw⟩ := hw
      refine z_iald hx hb hK.1 hP 1 0 rfl rfl i_4 dX9_keeps_88 (k := (((1 : Int32) + x1)).toNatClampNeg) rfl ?_
      refine lv_topi (fun v_5 ev_5 => ?_)
      replace hw := hw v_5 ev_5
      obtain ⟨i_6, hw⟩ := hw
      refine z_iast hx hb hK.1 hP hD hS 1 0 rfl rfl i_6 dX9_keeps_89 (k := ((((41 : Int32) + ((15 : Int32) * (sv 40))) + x1)).toNatClampNeg) rfl (fun f_7 ef_7 H locs hP hD hS => ?_)
      replace hw := hw f_7 ef_7
      have hP : va_P G.1 gCl [oc h 9 [.ref h_s, .ref h_images, .int kept, .ref h_tape, .int typed, .ref h_draft, .int atv, .ref h_items, .ref h_moved, .ref h_sizes, .ref h_lanes, .ref h_less, .ref h_aside, .ref h_order], ai G h_s 161 f_7] H := hP
      have hD : va_D A [oc h 9 [.ref h_s, .ref h_images, .int kept, .ref h_tape, .int typed, .ref h_draft, .int atv, .ref h_items, .ref h_moved, .ref h_sizes, .ref h_lanes, .ref h_less, .ref h_aside, .ref h_order], ai G h_s 161 f_7] := hD
      refine lv_iinc (v := (x1 + (1 : Int32))) (lv' := [(1, .int (x1 + (1 : Int32))), (0, .ref h)]) hx hb dX9_keeps_90 hl (k := 1) rfl rfl (by decide) rfl (fun ls hl => ?_)
      refine lv_goto (tgt := 56) hx hb dX9_keeps_93 (by decide) ?_
      exact ih f_7 (x1 + (1 : Int32)) H locs hP hD hS ls (lv_sub hl [1, 0] rfl) hw
def wp_X9_keeps_15  (Q : ((Nat → Int32)) → Prop)  : Nat → (Nat → Int32) → Int32 → Prop
  | 0, _, _ => False
  | n + 1, sv, x1 =>
    ((((146 : Int32) ≤ x1) → (∀ v_2 : Int32, v_2 = ((sv 40) - (1 : Int32)) → (∀ f_3 : Nat → Int32, f_3 = upd sv 40 v_2 → (∃ j_ : Nat, wp_X9_keeps_56  Q  j_ f_3 (0 : Int32))))) ∧ (¬ ((146 : Int32) ≤ x1) → (vp_in (x1 + (15 : Int32)) 161 ∧ (∀ v_5 : Int32, v_5 = (sv ((x1 + (15 : Int32))).toNatClampNeg) → (vp_in x1 161 ∧ ∀ f_7 : Nat → Int32, f_7 = upd sv x1.toNatClampNeg v_5 → wp_X9_keeps_15  Q  n f_7 (x1 + (1 : Int32)))))))
set_option maxHeartbeats 4000000 in
theorem wk_X9_keeps_15 {p : Program} {l : Launch} {e : Env} {s : State} {m : MethodId} {below : List Frame} {meth : Method} {c : Code} {args : Array Value} {G : GT} {A : Nat → Prop} (h h_s h_images h_tape h_draft h_items h_moved h_sizes h_lanes h_less h_aside h_order : Nat) (kept : Int32) (typed : Int32) (atv : Int32) (Q : ((Nat → Int32)) → Prop)  (C : Cx p s m meth c cX9_keeps 2 none RX9 args G A)  :
    ∀ (n : Nat), ∀  (sv : Nat → Int32) (x1 : Int32) (H : Heap) (locs : List Loc), va_P G.1 gCl [oc h 9 [.ref h_s, .ref h_images, .int kept, .ref h_tape, .int typed, .ref h_draft, .int atv, .ref h_items, .ref h_moved, .ref h_sizes, .ref h_lanes, .ref h_less, .ref h_aside, .ref h_order], ai G h_s 161 sv] H → va_D A [oc h 9 [.ref h_s, .ref h_images, .int kept, .ref h_tape, .int typed, .ref h_draft, .int atv, .ref h_items, .ref h_moved, .ref h_sizes, .ref h_lanes, .ref h_less, .ref h_aside, .ref h_order], ai G h_s 161 sv] → va_S A s.heap H locs → ∀ (ls : Array Slot), lv_has ls 2 [(0, .ref h), (1, .int x1)] → wp_X9_keeps_15  Q  n sv x1 → W p l e ({ frames := 0, cells := 0, slots := 0, locals := 0 } : Room) s m args below meth c H locs 0 0 (MQ below (va_Qv (fun (u : (Nat → Int32)) => Q u) (fun u t => va_P G.1 gCl [oc h 9 [.ref h_s, .ref h_images, .int kept, .ref h_tape, .int typed, .ref h_draft, .int atv, .ref h_items, .ref h_moved, .ref h_sizes, .ref h_lanes, .ref h_less, .ref h_aside, .ref h_order], ai G h_s 161 u] t.heap ∧ va_D A [oc h 9 [.ref h_s, .ref h_images, .int kept, .ref h_tape, .int typed, .ref h_draft, .int atv, .ref h_items, .ref h_moved, .ref h_sizes, .ref h_lanes, .ref h_less, .ref h_aside, .ref h_order], ai G h_s 161 u]) A) args s 0 0 A) (F0 m 15 ls []) := by
  have C9 := C
  obtain ⟨hx, hb, hr, hlocks, hml, hown, hts, hK, hA⟩ := C9
  intro n
  induction n with
  | zero => intro sv x1 H locs hP hD hS ls hl hw; exact False.elim hw
  | succ n ih =>
    intro sv x1 H locs hP hD hS ls hl hw
    unfold wp_X9_keeps_15 at hw
    refine lv_iload_n hx hb dX9_keeps_15 rfl (lv_at hl 1 rfl) ?_
    refine lv_sipush (v := (146 : Int32)) hx hb dX9_keeps_16 (by decide) ?_
    refine lv_icmp_ge (tgt := 43) hx hb dX9_keeps_19 (by decide) (fun c_1 => ?_) (fun c_1 => ?_)
    · replace hw := hw.1 c_1
      refine lv_aload_n hx hb dX9_keeps_43 rfl (lv_at hl 0 rfl) ?_
      refine va_get (D := G.1) (ci := 9) (v := .ref h_s) (C := RX9) (T := TX9) (N := 14) hx hb hts in_X9 hown hK.1 hP 0 rfl rfl 0 (by decide) (hts _ q817) (fun _ h9 => h9) rfl dX9_keeps_44 ?_
      refine lv_bipush (v := (40 : Int32)) hx hb dX9_keeps_47 (by decide) ?_
      refine lv_dup2_11 hx hb dX9_keeps_49 rfl rfl ?_
      refine z_iald hx hb hK.1 hP 1 0 rfl rfl (vin_l (by decide +kernel)) dX9_keeps_50 (k := 40) rfl ?_
      refine lv_iconst (v := (1 : Int32)) hx hb dX9_keeps_51 (by decide) ?_
      refine lv_isub hx hb dX9_keeps_52 ?_
      refine lv_topi (fun v_2 ev_2 => ?_)
      replace hw := hw v_2 ev_2
      refine z_iast hx hb hK.1 hP hD hS 1 0 rfl rfl (vin_l (by decide +kernel)) dX9_keeps_53 (k := 40) rfl (fun f_3 ef_3 H locs hP hD hS => ?_)
      replace hw := hw f_3 ef_3
      have hP : va_P G.1 gCl [oc h 9 [.ref h_s, .ref h_images, .int kept, .ref h_tape, .int typed, .ref h_draft, .int atv, .ref h_items, .ref h_moved, .ref h_sizes, .ref h_lanes, .ref h_less, .ref h_aside, .ref h_order], ai G h_s 161 f_3] H := hP
      have hD : va_D A [oc h 9 [.ref h_s, .ref h_images, .int kept, .ref h_tape, .int typed, .ref h_draft, .int atv, .ref h_items, .ref h_moved, .ref h_sizes, .ref h_lanes, .ref h_less, .ref h_aside, .ref h_order], ai G h_s 161 f_3] := hD
      refine lv_iconst (v := (0 : Int32)) hx hb dX9_keeps_54 (by decide) ?_
      refine lv_istore_n (lv' := [(1, .int (0 : Int32)), (0, .ref h)]) hx hb dX9_keeps_55 rfl hl (by decide) rfl (fun ls hl => ?_)
      obtain ⟨j_, hw⟩ := hw
      exact wk_X9_keeps_56 h h_s h_images h_tape h_draft h_items h_moved h_sizes h_lanes h_less h_aside h_order kept typed atv  Q  C  j_ f_3 (0 : Int32) H locs hP hD hS ls (lv_sub hl [1, 0] rfl) hw
    · replace hw := hw.2 c_1
      refine lv_aload_n hx hb dX9_keeps_22 rfl (lv_at hl 0 rfl) ?_
      refine va_get (D := G.1) (ci := 9) (v := .ref h_s) (C := RX9) (T := TX9) (N := 14) hx hb hts in_X9 hown hK.1 hP 0 rfl rfl 0 (by decide) (hts _ q817) (fun _ h9 => h9) rfl dX9_keeps_23 ?_
      refine lv_iload_n hx hb dX9_keeps_26 rfl (lv_at hl 1 rfl) ?_
      refine lv_aload_n hx hb dX9_keeps_27 rfl (lv_at hl 0 rfl) ?_
      refine va_get (D := G.1) (ci := 9) (v := .ref h_s) (C := RX9) (T := TX9) (N := 14) hx hb hts in_X9 hown hK.1 hP 0 rfl rfl 0 (by decide) (hts _ q817) (fun _ h9 => h9) rfl dX9_keeps_28 ?_
      refine lv_iload_n hx hb dX9_keeps_31 rfl (lv_at hl 1 rfl) ?_
      refine lv_bipush (v := (15 : Int32)) hx hb dX9_keeps_32 (by decide) ?_
      refine lv_iadd hx hb dX9_keeps_34 ?_
      obtain ⟨i_4, hw⟩ := hw
      refine z_iald hx hb hK.1 hP 1 0 rfl rfl i_4 dX9_keeps_35 (k := ((x1 + (15 : Int32))).toNatClampNeg) rfl ?_
      refine lv_topi (fun v_5 ev_5 => ?_)
      replace hw := hw v_5 ev_5
      obtain ⟨i_6, hw⟩ := hw
      refine z_iast hx hb hK.1 hP hD hS 1 0 rfl rfl i_6 dX9_keeps_36 (k := x1.toNatClampNeg) rfl (fun f_7 ef_7 H locs hP hD hS => ?_)
      replace hw := hw f_7 ef_7
      have hP : va_P G.1 gCl [oc h 9 [.ref h_s, .ref h_images, .int kept, .ref h_tape, .int typed, .ref h_draft, .int atv, .ref h_items, .ref h_moved, .ref h_sizes, .ref h_lanes, .ref h_less, .ref h_aside, .ref h_order], ai G h_s 161 f_7] H := hP
      have hD : va_D A [oc h 9 [.ref h_s, .ref h_images, .int kept, .ref h_tape, .int typed, .ref h_draft, .int atv, .ref h_items, .ref h_moved, .ref h_sizes, .ref h_lanes, .ref h_less, .ref h_aside, .ref h_order], ai G h_s 161 f_7] := hD
      refine lv_iinc (v := (x1 + (1 : Int32))) (lv' := [(1, .int (x1 + (1 : Int32))), (0, .ref h)]) hx hb dX9_keeps_37 hl (k := 1) rfl rfl (by decide) rfl (fun ls hl => ?_)
      refine lv_goto (tgt := 15) hx hb dX9_keeps_40 (by decide) ?_
      exact ih f_7 (x1 + (1 : Int32)) H locs hP hD hS ls (lv_sub hl [1, 0] rfl) hw
def wp_X9_keeps (sv : Nat → Int32) (Q : ((Nat → Int32)) → Prop) : Prop :=
  ((¬ ((sv 40) = (8 : Int32)) → (∃ j_ : Nat, wp_X9_keeps_56  Q  j_ sv (0 : Int32))) ∧ (((sv 40) = (8 : Int32)) → (∃ j_ : Nat, wp_X9_keeps_15  Q  j_ sv (41 : Int32))))
set_option maxHeartbeats 4000000 in
theorem mt_X9_keeps (l : Launch) (G : GT) (h h_s h_images h_tape h_draft h_items h_moved h_sizes h_lanes h_less h_aside h_order : Nat) (sz : Nat) (kept : Int32) (typed : Int32) (atv : Int32) (sv : Nat → Int32) (Q : ((Nat → Int32)) → Prop) (hw : wp_X9_keeps sv Q) : Met l yX9_keeps (ws_ yX9_keeps cX9_keeps 2 none) ({ frames := 0, cells := 0, slots := 0, locals := 0 } : Room) (va_Pc [.ref h] (fun U => U.heap.size = sz ∧ va_P G.1 gCl [oc h 9 [.ref h_s, .ref h_images, .int kept, .ref h_tape, .int typed, .ref h_draft, .int atv, .ref h_items, .ref h_moved, .ref h_sizes, .ref h_lanes, .ref h_less, .ref h_aside, .ref h_order], ai G h_s 161 sv] U.heap ∧ gK G U ∧ va_D (fun _ => True) [oc h 9 [.ref h_s, .ref h_images, .int kept, .ref h_tape, .int typed, .ref h_draft, .int atv, .ref h_items, .ref h_moved, .ref h_sizes, .ref h_lanes, .ref h_less, .ref h_aside, .ref h_order], ai G h_s 161 sv])) ((fun A => (va_Qv (fun (u : (Nat → Int32)) => Q u) (fun u t => va_P G.1 gCl [oc h 9 [.ref h_s, .ref h_images, .int kept, .ref h_tape, .int typed, .ref h_draft, .int atv, .ref h_items, .ref h_moved, .ref h_sizes, .ref h_lanes, .ref h_less, .ref h_aside, .ref h_order], ai G h_s 161 u] t.heap ∧ va_D A [oc h 9 [.ref h_s, .ref h_images, .int kept, .ref h_tape, .int typed, .ref h_draft, .int atv, .ref h_items, .ref h_moved, .ref h_sizes, .ref h_lanes, .ref h_less, .ref h_aside, .ref h_order], ai G h_s 161 u]) A)) (va_A [oc h 9 [.ref h_s, .ref h_images, .int kept, .ref h_tape, .int typed, .ref h_draft, .int atv, .ref h_items, .ref h_moved, .ref h_sizes, .ref h_lanes, .ref h_less, .ref h_aside, .ref h_order], ai G h_s 161 sv] sz)) 0 0 (va_A [oc h 9 [.ref h_s, .ref h_images, .int kept, .ref h_tape, .int typed, .ref h_draft, .int atv, .ref h_items, .ref h_moved, .ref h_sizes, .ref h_lanes, .ref h_less, .ref h_aside, .ref h_order], ai G h_s 161 sv] sz) := by
  refine Met.ofW (cc := cX9_keeps) (maxL := 2) (ret := none) (by decide) rfl ?_
  intro p e s m args below meth c s₁ B hml hv
  obtain ⟨rfl, hsz, hP, hK, hD0⟩ := hv
  have hx := B.exec
  have hb := B.bytes
  have hr := B.returns
  have hts := atoms_spec (ws := (ws_ yX9_keeps cX9_keeps 2 none)) B.pre
  have hts : ∀ w ∈ lw_all, w.before _ s = true := fun w h => hts w (List.mem_cons_of_mem _ h)
  have hown : s.vm.findClass RX9 = some m.cls := findClass_of_methodNamed B.named
  have hlocks := B.notSynchronized
  subst hsz
  have hD := hD0.self (sz := s.heap.size)
  generalize hAe : va_A [oc h 9 [.ref h_s, .ref h_images, .int kept, .ref h_tape, .int typed, .ref h_draft, .int atv, .ref h_items, .ref h_moved, .ref h_sizes, .ref h_lanes, .ref h_less, .ref h_aside, .ref h_order], ai G h_s 161 sv] s.heap.size = A at hD ⊢
  have hA : ∀ q : Nat, s.heap.size ≤ q → A q := fun q h => by rw [← hAe]; exact Or.inr h
  have hS : va_S A s.heap s.heap [] := va_S.rf
  have C : Cx p s m meth c cX9_keeps 2 none RX9 ([.ref h] : List Value).toArray G A := ⟨hx, hb, hr, hlocks, hml, hown, hts, hK, hA⟩
  have hl := lv_entry ([.ref h]) (n := 2) (Nat.le_of_ble_eq_true rfl)
  rw [lg_entry_eq]
  generalize (lg_sl ([.ref h]) ++ List.replicate (2 - (lg_sl ([.ref h])).length) Slot.unset).toArray = ls at hl ⊢
  have hl : lv_has ls 2 [(0, .ref h)] := hl
  unfold wp_X9_keeps at hw
  refine lv_aload_n hx hb dX9_keeps_0 rfl (lv_at hl 0 rfl) ?_
  refine va_get (D := G.1) (ci := 9) (v := .ref h_s) (C := RX9) (T := TX9) (N := 14) hx hb hts in_X9 hown hK.1 hP 0 rfl rfl 0 (by decide) (hts _ q817) (fun _ h9 => h9) rfl dX9_keeps_1 ?_
  refine lv_bipush (v := (40 : Int32)) hx hb dX9_keeps_4 (by decide) ?_
  refine z_iald hx hb hK.1 hP 1 0 rfl rfl (vin_l (by decide +kernel)) dX9_keeps_6 (k := 40) rfl ?_
  refine lv_bipush (v := (8 : Int32)) hx hb dX9_keeps_7 (by decide) ?_
  refine lv_icmp_ne (tgt := 54) hx hb dX9_keeps_9 (by decide) (fun c_1 => ?_) (fun c_1 => ?_)
  · replace hw := hw.1 c_1
    refine lv_iconst (v := (0 : Int32)) hx hb dX9_keeps_54 (by decide) ?_
    refine lv_istore_n (lv' := [(1, .int (0 : Int32)), (0, .ref h)]) hx hb dX9_keeps_55 rfl hl (by decide) rfl (fun ls hl => ?_)
    obtain ⟨j_, hw⟩ := hw
    exact wk_X9_keeps_56 h h_s h_images h_tape h_draft h_items h_moved h_sizes h_lanes h_less h_aside h_order kept typed atv  Q  C  j_ sv (0 : Int32) s.heap [] hP hD hS ls (lv_sub hl [1, 0] rfl) hw
  · replace hw := hw.2 c_1
    refine lv_bipush (v := (41 : Int32)) hx hb dX9_keeps_12 (by decide) ?_
    refine lv_istore_n (lv' := [(1, .int (41 : Int32)), (0, .ref h)]) hx hb dX9_keeps_14 rfl hl (by decide) rfl (fun ls hl => ?_)
    obtain ⟨j_, hw⟩ := hw
    exact wk_X9_keeps_15 h h_s h_images h_tape h_draft h_items h_moved h_sizes h_lanes h_less h_aside h_order kept typed atv  Q  C  j_ sv (41 : Int32) s.heap [] hP hD hS ls (lv_sub hl [1, 0] rfl) hw
/-! BattleBenchModel.has(II)Z -/
def wp_X9_has (p0 : Int32) (p1 : Int32) (Q : Int32 → Prop) : Prop :=
  ((¬ (((p0 >>> (p1 &&& 31)) &&& (1 : Int32)) = (1 : Int32)) → Q (0 : Int32)) ∧ ((((p0 >>> (p1 &&& 31)) &&& (1 : Int32)) = (1 : Int32)) → Q (1 : Int32)))
set_option maxHeartbeats 4000000 in
theorem mt_X9_has (l : Launch) (G : GT)  (sz : Nat) (p0 : Int32) (p1 : Int32) (Q : Int32 → Prop) (hw : wp_X9_has p0 p1 Q) : Met l yX9_has (ws_ yX9_has cX9_has 2 (some .boolean)) ({ frames := 0, cells := 0, slots := 0, locals := 0 } : Room) (va_Pc [.int p0, .int p1] (fun U => U.heap.size = sz ∧ va_P G.1 gCl [] U.heap ∧ gK G U ∧ va_D (fun _ => True) [])) ((fun A => (va_Qi (fun (r : Int32) (u : Unit) => Q r ) (fun u t => va_P G.1 gCl [] t.heap ∧ va_D A []) A)) (va_A [] sz)) 0 0 (va_A [] sz) := by
  refine Met.ofW (cc := cX9_has) (maxL := 2) (ret := (some .boolean)) (by decide) rfl ?_
  intro p e s m args below meth c s₁ B hml hv
  obtain ⟨rfl, hsz, hP, hK, hD0⟩ := hv
  have hx := B.exec
  have hb := B.bytes
  have hr := B.returns
  have hts := atoms_spec (ws := (ws_ yX9_has cX9_has 2 (some .boolean))) B.pre
  have hts : ∀ w ∈ lw_all, w.before _ s = true := fun w h => hts w (List.mem_cons_of_mem _ h)
  have hown : s.vm.findClass RX9 = some m.cls := findClass_of_methodNamed B.named
  have hlocks := B.notSynchronized
  subst hsz
  have hD := hD0.self (sz := s.heap.size)
  generalize hAe : va_A [] s.heap.size = A at hD ⊢
  have hA : ∀ q : Nat, s.heap.size ≤ q → A q := fun q h => by rw [← hAe]; exact Or.inr h
  have hS : va_S A s.heap s.heap [] := va_S.rf
  have C : Cx p s m meth c cX9_has 2 (some .boolean) RX9 ([.int p0, .int p1] : List Value).toArray G A := ⟨hx, hb, hr, hlocks, hml, hown, hts, hK, hA⟩
  have hl := lv_entry ([.int p0, .int p1]) (n := 2) (Nat.le_of_ble_eq_true rfl)
  rw [lg_entry_eq]
  generalize (lg_sl ([.int p0, .int p1]) ++ List.replicate (2 - (lg_sl ([.int p0, .int p1])).length) Slot.unset).toArray = ls at hl ⊢
  have hl : lv_has ls 2 [(0, .int p0), (1, .int p1)] := hl
  unfold wp_X9_has at hw
  refine lv_iload_n hx hb dX9_has_0 rfl (lv_at hl 0 rfl) ?_
  refine lv_iload_n hx hb dX9_has_1 rfl (lv_at hl 1 rfl) ?_
  refine lv_ishr hx hb dX9_has_2 ?_
  refine lv_iconst (v := (1 : Int32)) hx hb dX9_has_3 (by decide) ?_
  refine lv_iand hx hb dX9_has_4 ?_
  refine lv_iconst (v := (1 : Int32)) hx hb dX9_has_5 (by decide) ?_
  refine lv_icmp_ne (tgt := 13) hx hb dX9_has_6 (by decide) (fun c_1 => ?_) (fun c_1 => ?_)
  · replace hw := hw.1 c_1
    refine lv_iconst (v := (0 : Int32)) hx hb dX9_has_13 (by decide) ?_
    have hP9 := hP
    have hD9 := hD
    exact W.zret (v := (0 : Int32)) hx hb hr rfl (fun t ht hW => ⟨⟨(0 : Int32), (), rfl, hw, by rw [ht]; exact hP9, hD9⟩, hS.F ht⟩) hS.2.2 dX9_has_14
  · replace hw := hw.2 c_1
    refine lv_iconst (v := (1 : Int32)) hx hb dX9_has_9 (by decide) ?_
    refine lv_goto (tgt := 14) hx hb dX9_has_10 (by decide) ?_
    have hP9 := hP
    have hD9 := hD
    exact W.zret (v := (1 : Int32)) hx hb hr rfl (fun t ht hW => ⟨⟨(1 : Int32), (), rfl, hw, by rw [ht]; exact hP9, hD9⟩, hS.F ht⟩) hS.2.2 dX9_has_14
/-! BattleBenchModel.passes()V -/
def wp_X9_passes_110  (Q : ((Nat → Int32) × (Nat → Int32)) → Prop)  : Nat → (Nat → Int32) → (Nat → Int32) → Int32 → Int32 → Prop
  | 0, _, _, _, _ => False
  | n + 1, sv, less, x1, x2 =>
    ((((sv 1) ≤ x2) → (∀ f_2 : Nat → Int32, f_2 = upd sv 1 x1 → (∀ v_3 : Int32, v_3 = ((f_2 2) + (1 : Int32)) → (∀ f_4 : Nat → Int32, f_4 = upd f_2 2 v_3 → Q (f_4, less))))) ∧ (¬ ((sv 1) ≤ x2) → (vp_in ((10 : Int32) + x2) 161 ∧ (∀ v_6 : Int32, v_6 = (sv (((10 : Int32) + x2)).toNatClampNeg) → (vp_in ((10 : Int32) + x1) 161 ∧ ∀ f_8 : Nat → Int32, f_8 = upd sv (((10 : Int32) + x1)).toNatClampNeg v_6 → (vp_in ((4 : Int32) + v_6) 161 ∧ ((((f_8 (((4 : Int32) + v_6)).toNatClampNeg) ≤ 0) → (∀ v_11 : Int32, v_11 = (x1 + (0 : Int32)) → wp_X9_passes_110  Q  n f_8 less v_11 (x2 + (1 : Int32)))) ∧ (¬ ((f_8 (((4 : Int32) + v_6)).toNatClampNeg) ≤ 0) → (∀ v_12 : Int32, v_12 = (x1 + (1 : Int32)) → wp_X9_passes_110  Q  n f_8 less v_12 (x2 + (1 : Int32)))))))))))
set_option maxHeartbeats 4000000 in
theorem wk_X9_passes_110 {p : Program} {l : Launch} {e : Env} {s : State} {m : MethodId} {below : List Frame} {meth : Method} {c : Code} {args : Array Value} {G : GT} {A : Nat → Prop} (h h_s h_images h_tape h_draft h_items h_moved h_sizes h_lanes h_less h_aside h_order : Nat) (kept : Int32) (typed : Int32) (atv : Int32) (Q : ((Nat → Int32) × (Nat → Int32)) → Prop)  (C : Cx p s m meth c cX9_passes 4 none RX9 args G A)  :
    ∀ (n : Nat), ∀  (sv : Nat → Int32) (less : Nat → Int32) (x1 : Int32) (x2 : Int32) (H : Heap) (locs : List Loc), va_P G.1 gCl [oc h 9 [.ref h_s, .ref h_images, .int kept, .ref h_tape, .int typed, .ref h_draft, .int atv, .ref h_items, .ref h_moved, .ref h_sizes, .ref h_lanes, .ref h_less, .ref h_aside, .ref h_order], ai G h_s 161 sv, ai G h_less 6 less] H → va_D A [oc h 9 [.ref h_s, .ref h_images, .int kept, .ref h_tape, .int typed, .ref h_draft, .int atv, .ref h_items, .ref h_moved, .ref h_sizes, .ref h_lanes, .ref h_less, .ref h_aside, .ref h_order], ai G h_s 161 sv, ai G h_less 6 less] → va_S A s.heap H locs → ∀ (ls : Array Slot), lv_has ls 4 [(0, .ref h), (1, .int x1), (2, .int x2)] → wp_X9_passes_110  Q  n sv less x1 x2 → W p l e ({ frames := 4, cells := 0, slots := 0, locals := 90 } : Room) s m args below meth c H locs 0 0 (MQ below (va_Qv (fun (u : (Nat → Int32) × (Nat → Int32)) => Q u) (fun u t => va_P G.1 gCl [oc h 9 [.ref h_s, .ref h_images, .int kept, .ref h_tape, .int typed, .ref h_draft, .int atv, .ref h_items, .ref h_moved, .ref h_sizes, .ref h_lanes, .ref h_less, .ref h_aside, .ref h_order], ai G h_s 161 u.1, ai G h_less 6 u.2] t.heap ∧ va_D A [oc h 9 [.ref h_s, .ref h_images, .int kept, .ref h_tape, .int typed, .ref h_draft, .int atv, .ref h_items, .ref h_moved, .ref h_sizes, .ref h_lanes, .ref h_less, .ref h_aside, .ref h_order], ai G h_s 161 u.1, ai G h_less 6 u.2]) A) args s 0 0 A) (F0 m 110 ls []) := by
  have C9 := C
  obtain ⟨hx, hb, hr, hlocks, hml, hown, hts, hK, hA⟩ := C9
  intro n
  induction n with
  | zero => intro sv less x1 x2 H locs hP hD hS ls hl hw; exact False.elim hw
  | succ n ih =>
    intro sv less x1 x2 H locs hP hD hS ls hl hw
    unfold wp_X9_passes_110 at hw
    refine lv_iload_n hx hb dX9_passes_110 rfl (lv_at hl 2 rfl) ?_
    refine lv_aload_n hx hb dX9_passes_111 rfl (lv_at hl 0 rfl) ?_
    refine va_get (D := G.1) (ci := 9) (v := .ref h_s) (C := RX9) (T := TX9) (N := 14) hx hb hts in_X9 hown hK.1 hP 0 rfl rfl 0 (by decide) (hts _ q817) (fun _ h9 => h9) rfl dX9_passes_112 ?_
    refine lv_iconst (v := (1 : Int32)) hx hb dX9_passes_115 (by decide) ?_
    refine z_iald hx hb hK.1 hP 1 0 rfl rfl (vin_l (by decide +kernel)) dX9_passes_116 (k := 1) rfl ?_
    refine lv_icmp_ge (tgt := 165) hx hb dX9_passes_117 (by decide) (fun c_1 => ?_) (fun c_1 => ?_)
    · replace hw := hw.1 c_1
      refine lv_aload_n hx hb dX9_passes_165 rfl (lv_at hl 0 rfl) ?_
      refine va_get (D := G.1) (ci := 9) (v := .ref h_s) (C := RX9) (T := TX9) (N := 14) hx hb hts in_X9 hown hK.1 hP 0 rfl rfl 0 (by decide) (hts _ q817) (fun _ h9 => h9) rfl dX9_passes_166 ?_
      refine lv_iconst (v := (1 : Int32)) hx hb dX9_passes_169 (by decide) ?_
      refine lv_iload_n hx hb dX9_passes_170 rfl (lv_at hl 1 rfl) ?_
      refine z_iast hx hb hK.1 hP hD hS 1 0 rfl rfl (vin_l (by decide +kernel)) dX9_passes_171 (k := 1) rfl (fun f_2 ef_2 H locs hP hD hS => ?_)
      replace hw := hw f_2 ef_2
      have hP : va_P G.1 gCl [oc h 9 [.ref h_s, .ref h_images, .int kept, .ref h_tape, .int typed, .ref h_draft, .int atv, .ref h_items, .ref h_moved, .ref h_sizes, .ref h_lanes, .ref h_less, .ref h_aside, .ref h_order], ai G h_s 161 f_2, ai G h_less 6 less] H := hP
      have hD : va_D A [oc h 9 [.ref h_s, .ref h_images, .int kept, .ref h_tape, .int typed, .ref h_draft, .int atv, .ref h_items, .ref h_moved, .ref h_sizes, .ref h_lanes, .ref h_less, .ref h_aside, .ref h_order], ai G h_s 161 f_2, ai G h_less 6 less] := hD
      refine lv_aload_n hx hb dX9_passes_172 rfl (lv_at hl 0 rfl) ?_
      refine va_get (D := G.1) (ci := 9) (v := .ref h_s) (C := RX9) (T := TX9) (N := 14) hx hb hts in_X9 hown hK.1 hP 0 rfl rfl 0 (by decide) (hts _ q817) (fun _ h9 => h9) rfl dX9_passes_173 ?_
      refine lv_iconst (v := (2 : Int32)) hx hb dX9_passes_176 (by decide) ?_
      refine lv_dup2_11 hx hb dX9_passes_177 rfl rfl ?_
      refine z_iald hx hb hK.1 hP 1 0 rfl rfl (vin_l (by decide +kernel)) dX9_passes_178 (k := 2) rfl ?_
      refine lv_iconst (v := (1 : Int32)) hx hb dX9_passes_179 (by decide) ?_
      refine lv_iadd hx hb dX9_passes_180 ?_
      refine lv_topi (fun v_3 ev_3 => ?_)
      replace hw := hw v_3 ev_3
      refine z_iast hx hb hK.1 hP hD hS 1 0 rfl rfl (vin_l (by decide +kernel)) dX9_passes_181 (k := 2) rfl (fun f_4 ef_4 H locs hP hD hS => ?_)
      replace hw := hw f_4 ef_4
      have hP : va_P G.1 gCl [oc h 9 [.ref h_s, .ref h_images, .int kept, .ref h_tape, .int typed, .ref h_draft, .int atv, .ref h_items, .ref h_moved, .ref h_sizes, .ref h_lanes, .ref h_less, .ref h_aside, .ref h_order], ai G h_s 161 f_4, ai G h_less 6 less] H := hP
      have hD : va_D A [oc h 9 [.ref h_s, .ref h_images, .int kept, .ref h_tape, .int typed, .ref h_draft, .int atv, .ref h_items, .ref h_moved, .ref h_sizes, .ref h_lanes, .ref h_less, .ref h_aside, .ref h_order], ai G h_s 161 f_4, ai G h_less 6 less] := hD
      have hP9 := hP
      have hD9 := hD
      exact W.vret hx hb hr (fun t ht hW => ⟨⟨(f_4, less), rfl, hw, by rw [ht]; exact hP9, hD9⟩, hS.F ht⟩) hS.2.2 dX9_passes_182
    · replace hw := hw.2 c_1
      refine lv_aload_n hx hb dX9_passes_120 rfl (lv_at hl 0 rfl) ?_
      refine va_get (D := G.1) (ci := 9) (v := .ref h_s) (C := RX9) (T := TX9) (N := 14) hx hb hts in_X9 hown hK.1 hP 0 rfl rfl 0 (by decide) (hts _ q817) (fun _ h9 => h9) rfl dX9_passes_121 ?_
      refine lv_bipush (v := (10 : Int32)) hx hb dX9_passes_124 (by decide) ?_
      refine lv_iload_n hx hb dX9_passes_126 rfl (lv_at hl 2 rfl) ?_
      refine lv_iadd hx hb dX9_passes_127 ?_
      obtain ⟨i_5, hw⟩ := hw
      refine z_iald hx hb hK.1 hP 1 0 rfl rfl i_5 dX9_passes_128 (k := (((10 : Int32) + x2)).toNatClampNeg) rfl ?_
      refine lv_topi (fun v_6 ev_6 => ?_)
      replace hw := hw v_6 ev_6
      refine lv_istore_n (lv' := [(3, .int v_6), (0, .ref h), (1, .int x1), (2, .int x2)]) hx hb dX9_passes_129 rfl hl (by decide) rfl (fun ls hl => ?_)
      refine lv_aload_n hx hb dX9_passes_130 rfl (lv_at hl 1 rfl) ?_
      refine va_get (D := G.1) (ci := 9) (v := .ref h_s) (C := RX9) (T := TX9) (N := 14) hx hb hts in_X9 hown hK.1 hP 0 rfl rfl 0 (by decide) (hts _ q817) (fun _ h9 => h9) rfl dX9_passes_131 ?_
      refine lv_bipush (v := (10 : Int32)) hx hb dX9_passes_134 (by decide) ?_
      refine lv_iload_n hx hb dX9_passes_136 rfl (lv_at hl 2 rfl) ?_
      refine lv_iadd hx hb dX9_passes_137 ?_
      refine lv_iload_n hx hb dX9_passes_138 rfl (lv_at hl 0 rfl) ?_
      obtain ⟨i_7, hw⟩ := hw
      refine z_iast hx hb hK.1 hP hD hS 1 0 rfl rfl i_7 dX9_passes_139 (k := (((10 : Int32) + x1)).toNatClampNeg) rfl (fun f_8 ef_8 H locs hP hD hS => ?_)
      replace hw := hw f_8 ef_8
      have hP : va_P G.1 gCl [oc h 9 [.ref h_s, .ref h_images, .int kept, .ref h_tape, .int typed, .ref h_draft, .int atv, .ref h_items, .ref h_moved, .ref h_sizes, .ref h_lanes, .ref h_less, .ref h_aside, .ref h_order], ai G h_s 161 f_8, ai G h_less 6 less] H := hP
      have hD : va_D A [oc h 9 [.ref h_s, .ref h_images, .int kept, .ref h_tape, .int typed, .ref h_draft, .int atv, .ref h_items, .ref h_moved, .ref h_sizes, .ref h_lanes, .ref h_less, .ref h_aside, .ref h_order], ai G h_s 161 f_8, ai G h_less 6 less] := hD
      refine lv_iload_n hx hb dX9_passes_140 rfl (lv_at hl 2 rfl) ?_
      refine lv_aload_n hx hb dX9_passes_141 rfl (lv_at hl 1 rfl) ?_
      refine va_get (D := G.1) (ci := 9) (v := .ref h_s) (C := RX9) (T := TX9) (N := 14) hx hb hts in_X9 hown hK.1 hP 0 rfl rfl 0 (by decide) (hts _ q817) (fun _ h9 => h9) rfl dX9_passes_142 ?_
      refine lv_iconst (v := (4 : Int32)) hx hb dX9_passes_145 (by decide) ?_
      refine lv_iload_n hx hb dX9_passes_146 rfl (lv_at hl 0 rfl) ?_
      refine lv_iadd hx hb dX9_passes_147 ?_
      obtain ⟨i_9, hw⟩ := hw
      refine z_iald hx hb hK.1 hP 1 0 rfl rfl i_9 dX9_passes_148 (k := (((4 : Int32) + v_6)).toNatClampNeg) rfl ?_
      refine lv_if_le (tgt := 156) hx hb dX9_passes_149 (by decide) (fun c_10 => ?_) (fun c_10 => ?_)
      · replace hw := hw.1 c_10
        refine lv_iconst (v := (0 : Int32)) hx hb dX9_passes_156 (by decide) ?_
        refine lv_iadd hx hb dX9_passes_157 ?_
        refine lv_topi (fun v_11 ev_11 => ?_)
        replace hw := hw v_11 ev_11
        refine lv_istore_n (lv' := [(1, .int v_11), (3, .int v_6), (0, .ref h), (2, .int x2)]) hx hb dX9_passes_158 rfl hl (by decide) rfl (fun ls hl => ?_)
        refine lv_iinc (v := (x2 + (1 : Int32))) (lv' := [(2, .int (x2 + (1 : Int32))), (1, .int v_11), (3, .int v_6), (0, .ref h)]) hx hb dX9_passes_159 hl (k := 3) rfl rfl (by decide) rfl (fun ls hl => ?_)
        refine lv_goto (tgt := 110) hx hb dX9_passes_162 (by decide) ?_
        exact ih f_8 less v_11 (x2 + (1 : Int32)) H locs hP hD hS ls (lv_sub hl [3, 1, 0] rfl) hw
      · replace hw := hw.2 c_10
        refine lv_iconst (v := (1 : Int32)) hx hb dX9_passes_152 (by decide) ?_
        refine lv_goto (tgt := 157) hx hb dX9_passes_153 (by decide) ?_
        refine lv_iadd hx hb dX9_passes_157 ?_
        refine lv_topi (fun v_12 ev_12 => ?_)
        replace hw := hw v_12 ev_12
        refine lv_istore_n (lv' := [(1, .int v_12), (3, .int v_6), (0, .ref h), (2, .int x2)]) hx hb dX9_passes_158 rfl hl (by decide) rfl (fun ls hl => ?_)
        refine lv_iinc (v := (x2 + (1 : Int32))) (lv' := [(2, .int (x2 + (1 : Int32))), (1, .int v_12), (3, .int v_6), (0, .ref h)]) hx hb dX9_passes_159 hl (k := 3) rfl rfl (by decide) rfl (fun ls hl => ?_)
        refine lv_goto (tgt := 110) hx hb dX9_passes_162 (by decide) ?_
        exact ih f_8 less v_12 (x2 + (1 : Int32)) H locs hP hD hS ls (lv_sub hl [3, 1, 0] rfl) hw
def wp_X9_passes_46  (Q : ((Nat → Int32) × (Nat → Int32)) → Prop)  : Nat → (Nat → Int32) → (Nat → Int32) → Int32 → Prop
  | 0, _, _, _ => False
  | n + 1, sv, less, x1 =>
    ((((sv 0) ≤ x1) → (∃ j_ : Nat, wp_X9_passes_110  Q  j_ sv less (0 : Int32) (0 : Int32))) ∧ (¬ ((sv 0) ≤ x1) → (vp_in ((4 : Int32) + x1) 161 ∧ (vp_in x1 6 ∧ ((((sv (((4 : Int32) + x1)).toNatClampNeg) ≤ (less x1.toNatClampNeg)) → (vp_in ((4 : Int32) + x1) 161 ∧ ∀ f_6 : Nat → Int32, f_6 = upd sv (((4 : Int32) + x1)).toNatClampNeg (0 : Int32) → wp_X9_passes_46  Q  n f_6 less (x1 + (1 : Int32)))) ∧ (¬ ((sv (((4 : Int32) + x1)).toNatClampNeg) ≤ (less x1.toNatClampNeg)) → (vp_in ((4 : Int32) + x1) 161 ∧ (vp_in x1 6 ∧ (∀ v_9 : Int32, v_9 = ((sv (((4 : Int32) + x1)).toNatClampNeg) - (less x1.toNatClampNeg)) → (vp_in ((4 : Int32) + x1) 161 ∧ ∀ f_11 : Nat → Int32, f_11 = upd sv (((4 : Int32) + x1)).toNatClampNeg v_9 → wp_X9_passes_46  Q  n f_11 less (x1 + (1 : Int32))))))))))))
set_option maxHeartbeats 4000000 in
theorem wk_X9_passes_46 {p : Program} {l : Launch} {e : Env} {s : State} {m : MethodId} {below : List Frame} {meth : Method} {c : Code} {args : Array Value} {G : GT} {A : Nat → Prop} (h h_s h_images h_tape h_draft h_items h_moved h_sizes h_lanes h_less h_aside h_order : Nat) (kept : Int32) (typed : Int32) (atv : Int32) (Q : ((Nat → Int32) × (Nat → Int32)) → Prop)  (C : Cx p s m meth c cX9_passes 4 none RX9 args G A)  :
    ∀ (n : Nat), ∀  (sv : Nat → Int32) (less : Nat → Int32) (x1 : Int32) (H : Heap) (locs : List Loc), va_P G.1 gCl [oc h 9 [.ref h_s, .ref h_images, .int kept, .ref h_tape, .int typed, .ref h_draft, .int atv, .ref h_items, .ref h_moved, .ref h_sizes, .ref h_lanes, .ref h_less, .ref h_aside, .ref h_order], ai G h_s 161 sv, ai G h_less 6 less] H → va_D A [oc h 9 [.ref h_s, .ref h_images, .int kept, .ref h_tape, .int typed, .ref h_draft, .int atv, .ref h_items, .ref h_moved, .ref h_sizes, .ref h_lanes, .ref h_less, .ref h_aside, .ref h_order], ai G h_s 161 sv, ai G h_less 6 less] → va_S A s.heap H locs → ∀ (ls : Array Slot), lv_has ls 4 [(0, .ref h), (1, .int x1)] → wp_X9_passes_46  Q  n sv less x1 → W p l e ({ frames := 4, cells := 0, slots := 0, locals := 90 } : Room) s m args below meth c H locs 0 0 (MQ below (va_Qv (fun (u : (Nat → Int32) × (Nat → Int32)) => Q u) (fun u t => va_P G.1 gCl [oc h 9 [.ref h_s, .ref h_images, .int kept, .ref h_tape, .int typed, .ref h_draft, .int atv, .ref h_items, .ref h_moved, .ref h_sizes, .ref h_lanes, .ref h_less, .ref h_aside, .ref h_order], ai G h_s 161 u.1, ai G h_less 6 u.2] t.heap ∧ va_D A [oc h 9 [.ref h_s, .ref h_images, .int kept, .ref h_tape, .int typed, .ref h_draft, .int atv, .ref h_items, .ref h_moved, .ref h_sizes, .ref h_lanes, .ref h_less, .ref h_aside, .ref h_order], ai G h_s 161 u.1, ai G h_less 6 u.2]) A) args s 0 0 A) (F0 m 46 ls []) := by
  have C9 := C
  obtain ⟨hx, hb, hr, hlocks, hml, hown, hts, hK, hA⟩ := C9
  intro n
  induction n with
  | zero => intro sv less x1 H locs hP hD hS ls hl hw; exact False.elim hw
  | succ n ih =>
    intro sv less x1 H locs hP hD hS ls hl hw
    unfold wp_X9_passes_46 at hw
    refine lv_iload_n hx hb dX9_passes_46 rfl (lv_at hl 1 rfl) ?_
    refine lv_aload_n hx hb dX9_passes_47 rfl (lv_at hl 0 rfl) ?_
    refine va_get (D := G.1) (ci := 9) (v := .ref h_s) (C := RX9) (T := TX9) (N := 14) hx hb hts in_X9 hown hK.1 hP 0 rfl rfl 0 (by decide) (hts _ q817) (fun _ h9 => h9) rfl dX9_passes_48 ?_
    refine lv_iconst (v := (0 : Int32)) hx hb dX9_passes_51 (by decide) ?_
    refine z_iald hx hb hK.1 hP 1 0 rfl rfl (vin_l (by decide +kernel)) dX9_passes_52 (k := 0) rfl ?_
    refine lv_icmp_ge (tgt := 106) hx hb dX9_passes_53 (by decide) (fun c_1 => ?_) (fun c_1 => ?_)
    · replace hw := hw.1 c_1
      refine lv_iconst (v := (0 : Int32)) hx hb dX9_passes_106 (by decide) ?_
      refine lv_istore_n (lv' := [(1, .int (0 : Int32)), (0, .ref h)]) hx hb dX9_passes_107 rfl hl (by decide) rfl (fun ls hl => ?_)
      refine lv_iconst (v := (0 : Int32)) hx hb dX9_passes_108 (by decide) ?_
      refine lv_istore_n (lv' := [(2, .int (0 : Int32)), (1, .int (0 : Int32)), (0, .ref h)]) hx hb dX9_passes_109 rfl hl (by decide) rfl (fun ls hl => ?_)
      obtain ⟨j_, hw⟩ := hw
      exact wk_X9_passes_110 h h_s h_images h_tape h_draft h_items h_moved h_sizes h_lanes h_less h_aside h_order kept typed atv  Q  C  j_ sv less (0 : Int32) (0 : Int32) H locs hP hD hS ls (lv_sub hl [2, 1, 0] rfl) hw
    · replace hw := hw.2 c_1
      refine lv_aload_n hx hb dX9_passes_56 rfl (lv_at hl 0 rfl) ?_
      refine va_get (D := G.1) (ci := 9) (v := .ref h_s) (C := RX9) (T := TX9) (N := 14) hx hb hts in_X9 hown hK.1 hP 0 rfl rfl 0 (by decide) (hts _ q817) (fun _ h9 => h9) rfl dX9_passes_57 ?_
      refine lv_iconst (v := (4 : Int32)) hx hb dX9_passes_60 (by decide) ?_
      refine lv_iload_n hx hb dX9_passes_61 rfl (lv_at hl 1 rfl) ?_
      refine lv_iadd hx hb dX9_passes_62 ?_
      refine lv_aload_n hx hb dX9_passes_63 rfl (lv_at hl 0 rfl) ?_
      refine va_get (D := G.1) (ci := 9) (v := .ref h_s) (C := RX9) (T := TX9) (N := 14) hx hb hts in_X9 hown hK.1 hP 0 rfl rfl 0 (by decide) (hts _ q817) (fun _ h9 => h9) rfl dX9_passes_64 ?_
      refine lv_iconst (v := (4 : Int32)) hx hb dX9_passes_67 (by decide) ?_
      refine lv_iload_n hx hb dX9_passes_68 rfl (lv_at hl 1 rfl) ?_
      refine lv_iadd hx hb dX9_passes_69 ?_
      obtain ⟨i_2, hw⟩ := hw
      refine z_iald hx hb hK.1 hP 1 0 rfl rfl i_2 dX9_passes_70 (k := (((4 : Int32) + x1)).toNatClampNeg) rfl ?_
      refine lv_aload_n hx hb dX9_passes_71 rfl (lv_at hl 0 rfl) ?_
      refine va_get (D := G.1) (ci := 9) (v := .ref h_less) (C := RX9) (T := TX9) (N := 14) hx hb hts in_X9 hown hK.1 hP 0 rfl rfl 11 (by decide) (hts _ q828) (fun _ h9 => h9) rfl dX9_passes_72 ?_
      refine lv_iload_n hx hb dX9_passes_75 rfl (lv_at hl 1 rfl) ?_
      obtain ⟨i_3, hw⟩ := hw
      refine z_iald hx hb hK.1 hP 2 0 rfl rfl i_3 dX9_passes_76 (k := x1.toNatClampNeg) rfl ?_
      refine lv_icmp_le (tgt := 98) hx hb dX9_passes_77 (by decide) (fun c_4 => ?_) (fun c_4 => ?_)
      · replace hw := hw.1 c_4
        refine lv_iconst (v := (0 : Int32)) hx hb dX9_passes_98 (by decide) ?_
        obtain ⟨i_5, hw⟩ := hw
        refine z_iast hx hb hK.1 hP hD hS 1 0 rfl rfl i_5 dX9_passes_99 (k := (((4 : Int32) + x1)).toNatClampNeg) rfl (fun f_6 ef_6 H locs hP hD hS => ?_)
        replace hw := hw f_6 ef_6
        have hP : va_P G.1 gCl [oc h 9 [.ref h_s, .ref h_images, .int kept, .ref h_tape, .int typed, .ref h_draft, .int atv, .ref h_items, .ref h_moved, .ref h_sizes, .ref h_lanes, .ref h_less, .ref h_aside, .ref h_order], ai G h_s 161 f_6, ai G h_less 6 less] H := hP
        have hD : va_D A [oc h 9 [.ref h_s, .ref h_images, .int kept, .ref h_tape, .int typed, .ref h_draft, .int atv, .ref h_items, .ref h_moved, .ref h_sizes, .ref h_lanes, .ref h_less, .ref h_aside, .ref h_order], ai G h_s 161 f_6, ai G h_less 6 less] := hD
        refine lv_iinc (v := (x1 + (1 : Int32))) (lv' := [(1, .int (x1 + (1 : Int32))), (0, .ref h)]) hx hb dX9_passes_100 hl (k := 1) rfl rfl (by decide) rfl (fun ls hl => ?_)
        refine lv_goto (tgt := 46) hx hb dX9_passes_103 (by decide) ?_
        exact ih f_6 less (x1 + (1 : Int32)) H locs hP hD hS ls (lv_sub hl [1, 0] rfl) hw
      · replace hw := hw.2 c_4
        refine lv_aload_n hx hb dX9_passes_80 rfl (lv_at hl 0 rfl) ?_
        refine va_get (D := G.1) (ci := 9) (v := .ref h_s) (C := RX9) (T := TX9) (N := 14) hx hb hts in_X9 hown hK.1 hP 0 rfl rfl 0 (by decide) (hts _ q817) (fun _ h9 => h9) rfl dX9_passes_81 ?_
        refine lv_iconst (v := (4 : Int32)) hx hb dX9_passes_84 (by decide) ?_
        refine lv_iload_n hx hb dX9_passes_85 rfl (lv_at hl 1 rfl) ?_
        refine lv_iadd hx hb dX9_passes_86 ?_
        obtain ⟨i_7, hw⟩ := hw
        refine z_iald hx hb hK.1 hP 1 0 rfl rfl i_7 dX9_passes_87 (k := (((4 : Int32) + x1)).toNatClampNeg) rfl ?_
        refine lv_aload_n hx hb dX9_passes_88 rfl (lv_at hl 0 rfl) ?_
        refine va_get (D := G.1) (ci := 9) (v := .ref h_less) (C := RX9) (T := TX9) (N := 14) hx hb hts in_X9 hown hK.1 hP 0 rfl rfl 11 (by decide) (hts _ q828) (fun _ h9 => h9) rfl dX9_passes_89 ?_
        refine lv_iload_n hx hb dX9_passes_92 rfl (lv_at hl 1 rfl) ?_
        obtain ⟨i_8, hw⟩ := hw
        refine z_iald hx hb hK.1 hP 2 0 rfl rfl i_8 dX9_passes_93 (k := x1.toNatClampNeg) rfl ?_
        refine lv_isub hx hb dX9_passes_94 ?_
        refine lv_goto (tgt := 99) hx hb dX9_passes_95 (by decide) ?_
        refine lv_topi (fun v_9 ev_9 => ?_)
        replace hw := hw v_9 ev_9
        obtain ⟨i_10, hw⟩ := hw
        refine z_iast hx hb hK.1 hP hD hS 1 0 rfl rfl i_10 dX9_passes_99 (k := (((4 : Int32) + x1)).toNatClampNeg) rfl (fun f_11 ef_11 H locs hP hD hS => ?_)
        replace hw := hw f_11 ef_11
        have hP : va_P G.1 gCl [oc h 9 [.ref h_s, .ref h_images, .int kept, .ref h_tape, .int typed, .ref h_draft, .int atv, .ref h_items, .ref h_moved, .ref h_sizes, .ref h_lanes, .ref h_less, .ref h_aside, .ref h_order], ai G h_s 161 f_11, ai G h_less 6 less] H := hP
        have hD : va_D A [oc h 9 [.ref h_s, .ref h_images, .int kept, .ref h_tape, .int typed, .ref h_draft, .int atv, .ref h_items, .ref h_moved, .ref h_sizes, .ref h_lanes, .ref h_less, .ref h_aside, .ref h_order], ai G h_s 161 f_11, ai G h_less 6 less] := hD
        refine lv_iinc (v := (x1 + (1 : Int32))) (lv' := [(1, .int (x1 + (1 : Int32))), (0, .ref h)]) hx hb dX9_passes_100 hl (k := 1) rfl rfl (by decide) rfl (fun ls hl => ?_)
        refine lv_goto (tgt := 46) hx hb dX9_passes_103 (by decide) ?_
        exact ih f_11 less (x1 + (1 : Int32)) H locs hP hD hS ls (lv_sub hl [1, 0] rfl) hw
def wp_X9_passes_2  (Q : ((Nat → Int32) × (Nat → Int32)) → Prop)  : Nat → (Nat → Int32) → (Nat → Int32) → Int32 → Prop
  | 0, _, _, _ => False
  | n + 1, sv, less, x1 =>
    ((((sv 0) ≤ x1) → (∃ j_ : Nat, wp_X9_passes_46  Q  j_ sv less (0 : Int32))) ∧ (¬ ((sv 0) ≤ x1) → wp_X9_bench sv  (fun r_2 => wp_X9_has  r_2 x1 (fun r_3 => (((r_3 = 0) → (vp_in x1 6 ∧ ∀ f_6 : Nat → Int32, f_6 = upd less x1.toNatClampNeg (0 : Int32) → wp_X9_passes_2  Q  n sv f_6 (x1 + (1 : Int32)))) ∧ (¬ (r_3 = 0) → wp_X9_fails sv x1 (fun r_7 => (vp_in x1 6 ∧ ∀ f_9 : Nat → Int32, f_9 = upd less x1.toNatClampNeg r_7 → wp_X9_passes_2  Q  n sv f_9 (x1 + (1 : Int32))))))))))
set_option maxHeartbeats 4000000 in
theorem wk_X9_passes_2 {p : Program} {l : Launch} {e : Env} {s : State} {m : MethodId} {below : List Frame} {meth : Method} {c : Code} {args : Array Value} {G : GT} {A : Nat → Prop} (h h_s h_images h_tape h_draft h_items h_moved h_sizes h_lanes h_less h_aside h_order : Nat) (kept : Int32) (typed : Int32) (atv : Int32) (Q : ((Nat → Int32) × (Nat → Int32)) → Prop)  (C : Cx p s m meth c cX9_passes 4 none RX9 args G A)  :
    ∀ (n : Nat), ∀  (sv : Nat → Int32) (less : Nat → Int32) (x1 : Int32) (H : Heap) (locs : List Loc), va_P G.1 gCl [oc h 9 [.ref h_s, .ref h_images, .int kept, .ref h_tape, .int typed, .ref h_draft, .int atv, .ref h_items, .ref h_moved, .ref h_sizes, .ref h_lanes, .ref h_less, .ref h_aside, .ref h_order], ai G h_s 161 sv, ai G h_less 6 less] H → va_D A [oc h 9 [.ref h_s, .ref h_images, .int kept, .ref h_tape, .int typed, .ref h_draft, .int atv, .ref h_items, .ref h_moved, .ref h_sizes, .ref h_lanes, .ref h_less, .ref h_aside, .ref h_order], ai G h_s 161 sv, ai G h_less 6 less] → va_S A s.heap H locs → ∀ (ls : Array Slot), lv_has ls 4 [(0, .ref h), (1, .int x1)] → wp_X9_passes_2  Q  n sv less x1 → W p l e ({ frames := 4, cells := 0, slots := 0, locals := 90 } : Room) s m args below meth c H locs 0 0 (MQ below (va_Qv (fun (u : (Nat → Int32) × (Nat → Int32)) => Q u) (fun u t => va_P G.1 gCl [oc h 9 [.ref h_s, .ref h_images, .int kept, .ref h_tape, .int typed, .ref h_draft, .int atv, .ref h_items, .ref h_moved, .ref h_sizes, .ref h_lanes, .ref h_less, .ref h_aside, .ref h_order], ai G h_s 161 u.1, ai G h_less 6 u.2] t.heap ∧ va_D A [oc h 9 [.ref h_s, .ref h_images, .int kept, .ref h_tape, .int typed, .ref h_draft, .int atv, .ref h_items, .ref h_moved, .ref h_sizes, .ref h_lanes, .ref h_less, .ref h_aside, .ref h_order], ai G h_s 161 u.1, ai G h_less 6 u.2]) A) args s 0 0 A) (F0 m 2 ls []) := by
  have C9 := C
  obtain ⟨hx, hb, hr, hlocks, hml, hown, hts, hK, hA⟩ := C9
  intro n
  induction n with
  | zero => intro sv less x1 H locs hP hD hS ls hl hw; exact False.elim hw
  | succ n ih =>
    intro sv less x1 H locs hP hD hS ls hl hw
    unfold wp_X9_passes_2 at hw
    refine lv_iload_n hx hb dX9_passes_2 rfl (lv_at hl 1 rfl) ?_
    refine lv_aload_n hx hb dX9_passes_3 rfl (lv_at hl 0 rfl) ?_
    refine va_get (D := G.1) (ci := 9) (v := .ref h_s) (C := RX9) (T := TX9) (N := 14) hx hb hts in_X9 hown hK.1 hP 0 rfl rfl 0 (by decide) (hts _ q817) (fun _ h9 => h9) rfl dX9_passes_4 ?_
    refine lv_iconst (v := (0 : Int32)) hx hb dX9_passes_7 (by decide) ?_
    refine z_iald hx hb hK.1 hP 1 0 rfl rfl (vin_l (by decide +kernel)) dX9_passes_8 (k := 0) rfl ?_
    refine lv_icmp_ge (tgt := 44) hx hb dX9_passes_9 (by decide) (fun c_1 => ?_) (fun c_1 => ?_)
    · replace hw := hw.1 c_1
      refine lv_iconst (v := (0 : Int32)) hx hb dX9_passes_44 (by decide) ?_
      refine lv_istore_n (lv' := [(1, .int (0 : Int32)), (0, .ref h)]) hx hb dX9_passes_45 rfl hl (by decide) rfl (fun ls hl => ?_)
      obtain ⟨j_, hw⟩ := hw
      exact wk_X9_passes_46 h h_s h_images h_tape h_draft h_items h_moved h_sizes h_lanes h_less h_aside h_order kept typed atv  Q  C  j_ sv less (0 : Int32) H locs hP hD hS ls (lv_sub hl [1, 0] rfl) hw
    · replace hw := hw.2 c_1
      refine lv_aload_n hx hb dX9_passes_12 rfl (lv_at hl 0 rfl) ?_
      refine va_get (D := G.1) (ci := 9) (v := .ref h_less) (C := RX9) (T := TX9) (N := 14) hx hb hts in_X9 hown hK.1 hP 0 rfl rfl 11 (by decide) (hts _ q828) (fun _ h9 => h9) rfl dX9_passes_13 ?_
      refine lv_iload_n hx hb dX9_passes_16 rfl (lv_at hl 1 rfl) ?_
      refine lv_aload_n hx hb dX9_passes_17 rfl (lv_at hl 0 rfl) ?_
      have hPc := hP.sub (ws' := [oc h 9 [.ref h_s, .ref h_images, .int kept, .ref h_tape, .int typed, .ref h_draft, .int atv, .ref h_items, .ref h_moved, .ref h_sizes, .ref h_lanes, .ref h_less, .ref h_aside, .ref h_order], ai G h_s 161 sv]) [0, 1] rfl
      have hDc := hD.sub (ws' := [oc h 9 [.ref h_s, .ref h_images, .int kept, .ref h_tape, .int typed, .ref h_draft, .int atv, .ref h_items, .ref h_moved, .ref h_sizes, .ref h_lanes, .ref h_less, .ref h_aside, .ref h_order], ai G h_s 161 sv]) [0, 1] (by decide) rfl
      have hFc := va_free (wc := [oc h 9 [.ref h_s, .ref h_images, .int kept, .ref h_tape, .int typed, .ref h_draft, .int atv, .ref h_items, .ref h_moved, .ref h_sizes, .ref h_lanes, .ref h_less, .ref h_aside, .ref h_order], ai G h_s 161 sv]) hD hS hA [0, 1] rfl
      refine va_calli (va_runV (As := []) (rest := [.int x1, .ref h_less]) ⟨hx, hb, hml, hown, hts⟩ (mt_X9_bench l G h h_s h_images h_tape h_draft h_items h_moved h_sizes h_lanes h_less h_aside h_order H.size kept typed atv sv  _ hw) (cwV 0 hts (lw_V q952 q954 qs39 q65 q955) rfl rfl rfl (by decide +kernel) ⟨Nat.le_of_ble_eq_true rfl, Nat.le_of_ble_eq_true rfl⟩) ⟨fun a U g mk q => by obtain ⟨q0, q1, qP, qK, qD⟩ := q; exact ⟨q0, q1, qP, qK.call, qD⟩, va_recv hK.1 hP (ci := 9) (q0 := 0) rfl rfl, fun U hU hW => ⟨rfl, by rw [hU], by rw [hU]; exact hPc, hK.warm hW, hDc.weaken (fun _ _ _ _ => trivial)⟩⟩ rfl rfl hl.1 rfl (lv_room (Nat.le_of_ble_eq_true rfl)) dX9_passes_18 ⟨Nat.le_of_ble_eq_true rfl, Nat.le_of_ble_eq_true rfl⟩) hS (fun q _ h => hFc q h) hFc (fun r_2 _ t H1 locs ht hvm hw hB hz1 hk1 hS => ?_)
      obtain ⟨hP1, hD1⟩ := hB
      rw [ht] at hP1
      obtain ⟨hP, hD⟩ := va_join (wr := [ai G h_less 6 less]) (w1 := [oc h 9 [.ref h_s, .ref h_images, .int kept, .ref h_tape, .int typed, .ref h_draft, .int atv, .ref h_items, .ref h_moved, .ref h_sizes, .ref h_lanes, .ref h_less, .ref h_aside, .ref h_order], ai G h_s 161 sv]) hP hD [0, 1] [2] rfl rfl (by decide) (by decide) hk1 hFc hP1 hD1
      clear hPc hDc hFc hP1 hD1 hz1 hk1 hvm
      generalize H1 = H at hP hS ⊢
      have hP : va_P G.1 gCl [ai G h_less 6 less, oc h 9 [.ref h_s, .ref h_images, .int kept, .ref h_tape, .int typed, .ref h_draft, .int atv, .ref h_items, .ref h_moved, .ref h_sizes, .ref h_lanes, .ref h_less, .ref h_aside, .ref h_order], ai G h_s 161 sv] H := hP
      have hD : va_D A [ai G h_less 6 less, oc h 9 [.ref h_s, .ref h_images, .int kept, .ref h_tape, .int typed, .ref h_draft, .int atv, .ref h_items, .ref h_moved, .ref h_sizes, .ref h_lanes, .ref h_less, .ref h_aside, .ref h_order], ai G h_s 161 sv] := hD
      refine lv_iload_n hx hb dX9_passes_21 rfl (lv_at hl 1 rfl) ?_
      have hPc := hP.sub (ws' := []) [] rfl
      have hDc := hD.sub (ws' := []) [] (by decide) rfl
      have hFc := va_free (wc := []) hD hS hA [] rfl
      refine va_calli (va_runS (As := [.int r_2, .int x1]) (rest := [.int x1, .ref h_less]) ⟨hx, hb, hml, hown, hts⟩ (mt_X9_has l G  H.size  r_2 x1 _ hw) (va_cwS 2 hts (lw_S q976 q977 q65 q978) rfl rfl rfl (by decide +kernel) ⟨Nat.le_of_ble_eq_true rfl, Nat.le_of_ble_eq_true rfl⟩) ⟨fun a U g mk q => by obtain ⟨q0, q1, qP, qK, qD⟩ := q; exact ⟨q0, q1, qP, qK.call, qD⟩, fun U hU hW => ⟨rfl, by rw [hU], by rw [hU]; exact hPc, hK.warm hW, hDc.weaken (fun _ _ _ _ => trivial)⟩⟩ rfl rfl hl.1 rfl (lv_room (Nat.le_of_ble_eq_true rfl)) dX9_passes_22 ⟨Nat.le_of_ble_eq_true rfl, Nat.le_of_ble_eq_true rfl⟩) hS (fun q _ h => hFc q h) hFc (fun r_3 _ t H1 locs ht hvm hw hB hz1 hk1 hS => ?_)
      obtain ⟨hP1, hD1⟩ := hB
      rw [ht] at hP1
      obtain ⟨hP, hD⟩ := va_join (wr := [ai G h_less 6 less, oc h 9 [.ref h_s, .ref h_images, .int kept, .ref h_tape, .int typed, .ref h_draft, .int atv, .ref h_items, .ref h_moved, .ref h_sizes, .ref h_lanes, .ref h_less, .ref h_aside, .ref h_order], ai G h_s 161 sv]) (w1 := []) hP hD [] [0, 1, 2] rfl rfl (by decide) (by decide) hk1 hFc hP1 hD1
      clear hPc hDc hFc hP1 hD1 hz1 hk1 hvm
      generalize H1 = H at hP hS ⊢
      have hP : va_P G.1 gCl [ai G h_less 6 less, oc h 9 [.ref h_s, .ref h_images, .int kept, .ref h_tape, .int typed, .ref h_draft, .int atv, .ref h_items, .ref h_moved, .ref h_sizes, .ref h_lanes, .ref h_less, .ref h_aside, .ref h_order], ai G h_s 161 sv] H := hP
      have hD : va_D A [ai G h_less 6 less, oc h 9 [.ref h_s, .ref h_images, .int kept, .ref h_tape, .int typed, .ref h_draft, .int atv, .ref h_items, .ref h_moved, .ref h_sizes, .ref h_lanes, .ref h_less, .ref h_aside, .ref h_order], ai G h_s 161 sv] := hD
      refine lv_if_eq (tgt := 36) hx hb dX9_passes_25 (by decide) (fun c_4 => ?_) (fun c_4 => ?_)
      · replace hw := hw.1 c_4
        refine lv_iconst (v := (0 : Int32)) hx hb dX9_passes_36 (by decide) ?_
        obtain ⟨i_5, hw⟩ := hw
        refine z_iast hx hb hK.1 hP hD hS 0 0 rfl rfl i_5 dX9_passes_37 (k := x1.toNatClampNeg) rfl (fun f_6 ef_6 H locs hP hD hS => ?_)
        replace hw := hw f_6 ef_6
        have hP : va_P G.1 gCl [ai G h_less 6 f_6, oc h 9 [.ref h_s, .ref h_images, .int kept, .ref h_tape, .int typed, .ref h_draft, .int atv, .ref h_items, .ref h_moved, .ref h_sizes, .ref h_lanes, .ref h_less, .ref h_aside, .ref h_order], ai G h_s 161 sv] H := hP
        have hD : va_D A [ai G h_less 6 f_6, oc h 9 [.ref h_s, .ref h_images, .int kept, .ref h_tape, .int typed, .ref h_draft, .int atv, .ref h_items, .ref h_moved, .ref h_sizes, .ref h_lanes, .ref h_less, .ref h_aside, .ref h_order], ai G h_s 161 sv] := hD
        refine lv_iinc (v := (x1 + (1 : Int32))) (lv' := [(1, .int (x1 + (1 : Int32))), (0, .ref h)]) hx hb dX9_passes_38 hl (k := 1) rfl rfl (by decide) rfl (fun ls hl => ?_)
        refine lv_goto (tgt := 2) hx hb dX9_passes_41 (by decide) ?_
        exact ih sv f_6 (x1 + (1 : Int32)) H locs (hP.sub [1, 2, 0] rfl) (hD.sub [1, 2, 0] (by decide) rfl) hS ls (lv_sub hl [1, 0] rfl) hw
      · replace hw := hw.2 c_4
        refine lv_aload_n hx hb dX9_passes_28 rfl (lv_at hl 0 rfl) ?_
        refine lv_iload_n hx hb dX9_passes_29 rfl (lv_at hl 1 rfl) ?_
        have hPc := hP.sub (ws' := [oc h 9 [.ref h_s, .ref h_images, .int kept, .ref h_tape, .int typed, .ref h_draft, .int atv, .ref h_items, .ref h_moved, .ref h_sizes, .ref h_lanes, .ref h_less, .ref h_aside, .ref h_order], ai G h_s 161 sv]) [1, 2] rfl
        have hDc := hD.sub (ws' := [oc h 9 [.ref h_s, .ref h_images, .int kept, .ref h_tape, .int typed, .ref h_draft, .int atv, .ref h_items, .ref h_moved, .ref h_sizes, .ref h_lanes, .ref h_less, .ref h_aside, .ref h_order], ai G h_s 161 sv]) [1, 2] (by decide) rfl
        have hFc := va_free (wc := [oc h 9 [.ref h_s, .ref h_images, .int kept, .ref h_tape, .int typed, .ref h_draft, .int atv, .ref h_items, .ref h_moved, .ref h_sizes, .ref h_lanes, .ref h_less, .ref h_aside, .ref h_order], ai G h_s 161 sv]) hD hS hA [1, 2] rfl
        refine va_calli (va_runV (As := [.int x1]) (rest := [.int x1, .ref h_less]) ⟨hx, hb, hml, hown, hts⟩ (mt_X9_fails l G h h_s h_images h_tape h_draft h_items h_moved h_sizes h_lanes h_less h_aside h_order H.size kept typed atv sv x1 _ hw) (cwV 1 hts (lw_V q903 q905 qs33 q65 q906) rfl rfl rfl (by decide +kernel) ⟨Nat.le_of_ble_eq_true rfl, Nat.le_of_ble_eq_true rfl⟩) ⟨fun a U g mk q => by obtain ⟨q0, q1, qP, qK, qD⟩ := q; exact ⟨q0, q1, qP, qK.call, qD⟩, va_recv hK.1 hP (ci := 9) (q0 := 1) rfl rfl, fun U hU hW => ⟨rfl, by rw [hU], by rw [hU]; exact hPc, hK.warm hW, hDc.weaken (fun _ _ _ _ => trivial)⟩⟩ rfl rfl hl.1 rfl (lv_room (Nat.le_of_ble_eq_true rfl)) dX9_passes_30 ⟨Nat.le_of_ble_eq_true rfl, Nat.le_of_ble_eq_true rfl⟩) hS (fun q _ h => hFc q h) hFc (fun r_7 _ t H1 locs ht hvm hw hB hz1 hk1 hS => ?_)
        obtain ⟨hP1, hD1⟩ := hB
        rw [ht] at hP1
        obtain ⟨hP, hD⟩ := va_join (wr := [ai G h_less 6 less]) (w1 := [oc h 9 [.ref h_s, .ref h_images, .int kept, .ref h_tape, .int typed, .ref h_draft, .int atv, .ref h_items, .ref h_moved, .ref h_sizes, .ref h_lanes, .ref h_less, .ref h_aside, .ref h_order], ai G h_s 161 sv]) hP hD [1, 2] [0] rfl rfl (by decide) (by decide) hk1 hFc hP1 hD1
        clear hPc hDc hFc hP1 hD1 hz1 hk1 hvm
        generalize H1 = H at hP hS ⊢
        have hP : va_P G.1 gCl [ai G h_less 6 less, oc h 9 [.ref h_s, .ref h_images, .int kept, .ref h_tape, .int typed, .ref h_draft, .int atv, .ref h_items, .ref h_moved, .ref h_sizes, .ref h_lanes, .ref h_less, .ref h_aside, .ref h_order], ai G h_s 161 sv] H := hP
        have hD : va_D A [ai G h_less 6 less, oc h 9 [.ref h_s, .ref h_images, .int kept, .ref h_tape, .int typed, .ref h_draft, .int atv, .ref h_items, .ref h_moved, .ref h_sizes, .ref h_lanes, .ref h_less, .ref h_aside, .ref h_order], ai G h_s 161 sv] := hD
        refine lv_goto (tgt := 37) hx hb dX9_passes_33 (by decide) ?_
        obtain ⟨i_8, hw⟩ := hw
        refine z_iast hx hb hK.1 hP hD hS 0 0 rfl rfl i_8 dX9_passes_37 (k := x1.toNatClampNeg) rfl (fun f_9 ef_9 H locs hP hD hS => ?_)
        replace hw := hw f_9 ef_9
        have hP : va_P G.1 gCl [ai G h_less 6 f_9, oc h 9 [.ref h_s, .ref h_images, .int kept, .ref h_tape, .int typed, .ref h_draft, .int atv, .ref h_items, .ref h_moved, .ref h_sizes, .ref h_lanes, .ref h_less, .ref h_aside, .ref h_order], ai G h_s 161 sv] H := hP
        have hD : va_D A [ai G h_less 6 f_9, oc h 9 [.ref h_s, .ref h_images, .int kept, .ref h_tape, .int typed, .ref h_draft, .int atv, .ref h_items, .ref h_moved, .ref h_sizes, .ref h_lanes, .ref h_less, .ref h_aside, .ref h_order], ai G h_s 161 sv] := hD
        refine lv_iinc (v := (x1 + (1 : Int32))) (lv' := [(1, .int (x1 + (1 : Int32))), (0, .ref h)]) hx hb dX9_passes_38 hl (k := 1) rfl rfl (by decide) rfl (fun ls hl => ?_)
        refine lv_goto (tgt := 2) hx hb dX9_passes_41 (by decide) ?_
        exact ih sv f_9 (x1 + (1 : Int32)) H locs (hP.sub [1, 2, 0] rfl) (hD.sub [1, 2, 0] (by decide) rfl) hS ls (lv_sub hl [1, 0] rfl) hw
def wp_X9_passes (sv : Nat → Int32) (less : Nat → Int32) (Q : ((Nat → Int32) × (Nat → Int32)) → Prop) : Prop :=
  (∃ j_ : Nat, wp_X9_passes_2  Q  j_ sv less (0 : Int32))
set_option maxHeartbeats 4000000 in
theorem mt_X9_passes (l : Launch) (G : GT) (h h_s h_images h_tape h_draft h_items h_moved h_sizes h_lanes h_less h_aside h_order : Nat) (sz : Nat) (kept : Int32) (typed : Int32) (atv : Int32) (sv : Nat → Int32) (less : Nat → Int32) (Q : ((Nat → Int32) × (Nat → Int32)) → Prop) (hw : wp_X9_passes sv less Q) : Met l yX9_passes (ws_ yX9_passes cX9_passes 4 none) ({ frames := 4, cells := 0, slots := 0, locals := 90 } : Room) (va_Pc [.ref h] (fun U => U.heap.size = sz ∧ va_P G.1 gCl [oc h 9 [.ref h_s, .ref h_images, .int kept, .ref h_tape, .int typed, .ref h_draft, .int atv, .ref h_items, .ref h_moved, .ref h_sizes, .ref h_lanes, .ref h_less, .ref h_aside, .ref h_order], ai G h_s 161 sv, ai G h_less 6 less] U.heap ∧ gK G U ∧ va_D (fun _ => True) [oc h 9 [.ref h_s, .ref h_images, .int kept, .ref h_tape, .int typed, .ref h_draft, .int atv, .ref h_items, .ref h_moved, .ref h_sizes, .ref h_lanes, .ref h_less, .ref h_aside, .ref h_order], ai G h_s 161 sv, ai G h_less 6 less])) ((fun A => (va_Qv (fun (u : (Nat → Int32) × (Nat → Int32)) => Q u) (fun u t => va_P G.1 gCl [oc h 9 [.ref h_s, .ref h_images, .int kept, .ref h_tape, .int typed, .ref h_draft, .int atv, .ref h_items, .ref h_moved, .ref h_sizes, .ref h_lanes, .ref h_less, .ref h_aside, .ref h_order], ai G h_s 161 u.1, ai G h_less 6 u.2] t.heap ∧ va_D A [oc h 9 [.ref h_s, .ref h_images, .int kept, .ref h_tape, .int typed, .ref h_draft, .int atv, .ref h_items, .ref h_moved, .ref h_sizes, .ref h_lanes, .ref h_less, .ref h_aside, .ref h_order], ai G h_s 161 u.1, ai G h_less 6 u.2]) A)) (va_A [oc h 9 [.ref h_s, .ref h_images, .int kept, .ref h_tape, .int typed, .ref h_draft, .int atv, .ref h_items, .ref h_moved, .ref h_sizes, .ref h_lanes, .ref h_less, .ref h_aside, .ref h_order], ai G h_s 161 sv, ai G h_less 6 less] sz)) 0 0 (va_A [oc h 9 [.ref h_s, .ref h_images, .int kept, .ref h_tape, .int typed, .ref h_draft, .int atv, .ref h_items, .ref h_moved, .ref h_sizes, .ref h_lanes, .ref h_less, .ref h_aside, .ref h_order], ai G h_s 161 sv, ai G h_less 6 less] sz) := by
  refine Met.ofW (cc := cX9_passes) (maxL := 4) (ret := none) (by decide) rfl ?_
  intro p e s m args below meth c s₁ B hml hv
  obtain ⟨rfl, hsz, hP, hK, hD0⟩ := hv
  have hx := B.exec
  have hb := B.bytes
  have hr := B.returns
  have hts := atoms_spec (ws := (ws_ yX9_passes cX9_passes 4 none)) B.pre
  have hts : ∀ w ∈ lw_all, w.before _ s = true := fun w h => hts w (List.mem_cons_of_mem _ h)
  have hown : s.vm.findClass RX9 = some m.cls := findClass_of_methodNamed B.named
  have hlocks := B.notSynchronized
  subst hsz
  have hD := hD0.self (sz := s.heap.size)
  generalize hAe : va_A [oc h 9 [.ref h_s, .ref h_images, .int kept, .ref h_tape, .int typed, .ref h_draft, .int atv, .ref h_items, .ref h_moved, .ref h_sizes, .ref h_lanes, .ref h_less, .ref h_aside, .ref h_order], ai G h_s 161 sv, ai G h_less 6 less] s.heap.size = A at hD ⊢
  have hA : ∀ q : Nat, s.heap.size ≤ q → A q := fun q h => by rw [← hAe]; exact Or.inr h
  have hS : va_S A s.heap s.heap [] := va_S.rf
  have C : Cx p s m meth c cX9_passes 4 none RX9 ([.ref h] : List Value).toArray G A := ⟨hx, hb, hr, hlocks, hml, hown, hts, hK, hA⟩
  have hl := lv_entry ([.ref h]) (n := 4) (Nat.le_of_ble_eq_true rfl)
  rw [lg_entry_eq]
  generalize (lg_sl ([.ref h]) ++ List.replicate (4 - (lg_sl ([.ref h])).length) Slot.unset).toArray = ls at hl ⊢
  have hl : lv_has ls 4 [(0, .ref h)] := hl
  unfold wp_X9_passes at hw
  refine lv_iconst (v := (0 : Int32)) hx hb dX9_passes_0 (by decide) ?_
  refine lv_istore_n (lv' := [(1, .int (0 : Int32)), (0, .ref h)]) hx hb dX9_passes_1 rfl hl (by decide) rfl (fun ls hl => ?_)
  obtain ⟨j_, hw⟩ := hw
  exact wk_X9_passes_2 h h_s h_images h_tape h_draft h_items h_moved h_sizes h_lanes h_less h_aside h_order kept typed atv  Q  C  j_ sv less (0 : Int32) s.heap [] hP hD hS ls (lv_sub hl [1, 0] rfl) hw
/-! BattleBenchModel.years(I)I -/
def wp_X9_years_31 (p1 : Int32) (Q : Int32 → ((Nat → Int32) × (Nat → Int32)) → Prop)  : Nat → (Nat → Int32) → (Nat → Int32) → Int32 → Prop
  | 0, _, _, _ => False
  | n + 1, sv, less, x2 =>
    (((p1 ≤ x2) → wp_X9_bench sv  (fun r_2 => Q r_2 (sv, less))) ∧ (¬ (p1 ≤ x2) → wp_X9_keeps sv  (fun u_3 => wp_X9_passes u_3 less  (fun u_4 => wp_X9_years_31 p1 Q  n u_4.1 u_4.2 (x2 + (1 : Int32))))))
set_option maxHeartbeats 4000000 in
theorem wk_X9_years_31 {p : Program} {l : Launch} {e : Env} {s : State} {m : MethodId} {below : List Frame} {meth : Method} {c : Code} {args : Array Value} {G : GT} {A : Nat → Prop} (h h_s h_images h_tape h_draft h_items h_moved h_sizes h_lanes h_less h_aside h_order : Nat) (kept : Int32) (typed : Int32) (atv : Int32) (p1 : Int32) (Q : Int32 → ((Nat → Int32) × (Nat → Int32)) → Prop)  (C : Cx p s m meth c cX9_years 3 (some .int) RX9 args G A)  :
    ∀ (n : Nat), ∀  (sv : Nat → Int32) (less : Nat → Int32) (x2 : Int32) (H : Heap) (locs : List Loc), va_P G.1 gCl [oc h 9 [.ref h_s, .ref h_images, .int kept, .ref h_tape, .int typed, .ref h_draft, .int atv, .ref h_items, .ref h_moved, .ref h_sizes, .ref h_lanes, .ref h_less, .ref h_aside, .ref h_order], ai G h_s 161 sv, ai G h_less 6 less] H → va_D A [oc h 9 [.ref h_s, .ref h_images, .int kept, .ref h_tape, .int typed, .ref h_draft, .int atv, .ref h_items, .ref h_moved, .ref h_sizes, .ref h_lanes, .ref h_less, .ref h_aside, .ref h_order], ai G h_s 161 sv, ai G h_less 6 less] → va_S A s.heap H locs → ∀ (ls : Array Slot), lv_has ls 3 [(0, .ref h), (1, .int p1), (2, .int x2)] → wp_X9_years_31 p1 Q  n sv less x2 → W p l e ({ frames := 5, cells := 0, slots := 0, locals := 113 } : Room) s m args below meth c H locs 0 0 (MQ below (va_Qi (fun (r : Int32) (u : (Nat → Int32) × (Nat → Int32)) => Q r u) (fun u t => va_P G.1 gCl [oc h 9 [.ref h_s, .ref h_images, .int kept, .ref h_tape, .int typed, .ref h_draft, .int atv, .ref h_items, .ref h_moved, .ref h_sizes, .ref h_lanes, .ref h_less, .ref h_aside, .ref h_order], ai G h_s 161 u.1, ai G h_less 6 u.2] t.heap ∧ va_D A [oc h 9 [.ref h_s, .ref h_images, .int kept, .ref h_tape, .int typed, .ref h_draft, .int atv, .ref h_items, .ref h_moved, .ref h_sizes, .ref h_lanes, .ref h_less, .ref h_aside, .ref h_order], ai G h_s 161 u.1, ai G h_less 6 u.2]) A) args s 0 0 A) (F0 m 31 ls []) := by
  have C9 := C
  obtain ⟨hx, hb, hr, hlocks, hml, hown, hts, hK, hA⟩ := C9
  intro n
  induction n with
  | zero => intro sv less x2 H locs hP hD hS ls hl hw; exact False.elim hw
  | succ n ih =>
    intro sv less x2 H locs hP hD hS ls hl hw
    unfold wp_X9_years_31 at hw
    refine lv_iload_n hx hb dX9_years_31 rfl (lv_at hl 2 rfl) ?_
    refine lv_iload_n hx hb dX9_years_32 rfl (lv_at hl 1 rfl) ?_
    refine lv_icmp_ge (tgt := 50) hx hb dX9_years_33 (by decide) (fun c_1 => ?_) (fun c_1 => ?_)
    · replace hw := hw.1 c_1
      refine lv_aload_n hx hb dX9_years_50 rfl (lv_at hl 0 rfl) ?_
      have hPc := hP.sub (ws' := [oc h 9 [.ref h_s, .ref h_images, .int kept, .ref h_tape, .int typed, .ref h_draft, .int atv, .ref h_items, .ref h_moved, .ref h_sizes, .ref h_lanes, .ref h_less, .ref h_aside, .ref h_order], ai G h_s 161 sv]) [0, 1] rfl
      have hDc := hD.sub (ws' := [oc h 9 [.ref h_s, .ref h_images, .int kept, .ref h_tape, .int typed, .ref h_draft, .int atv, .ref h_items, .ref h_moved, .ref h_sizes, .ref h_lanes, .ref h_less, .ref h_aside, .ref h_order], ai G h_s 161 sv]) [0, 1] (by decide) rfl
      have hFc := va_free (wc := [oc h 9 [.ref h_s, .ref h_images, .int kept, .ref h_tape, .int typed, .ref h_draft, .int atv, .ref h_items, .ref h_moved, .ref h_sizes, .ref h_lanes, .ref h_less, .ref h_aside, .ref h_order], ai G h_s 161 sv]) hD hS hA [0, 1] rfl
      refine va_calli (va_runV (As := []) (rest := []) ⟨hx, hb, hml, hown, hts⟩ (mt_X9_bench l G h h_s h_images h_tape h_draft h_items h_moved h_sizes h_lanes h_less h_aside h_order H.size kept typed atv sv  _ hw) (cwV 0 hts (lw_V q952 q954 qs39 q65 q955) rfl rfl rfl (by decide +kernel) ⟨Nat.le_of_ble_eq_true rfl, Nat.le_of_ble_eq_true rfl⟩) ⟨fun a U g mk q => by obtain ⟨q0, q1, qP, qK, qD⟩ := q; exact ⟨q0, q1, qP, qK.call, qD⟩, va_recv hK.1 hP (ci := 9) (q0 := 0) rfl rfl, fun U hU hW => ⟨rfl, by rw [hU], by rw [hU]; exact hPc, hK.warm hW, hDc.weaken (fun _ _ _ _ => trivial)⟩⟩ rfl rfl hl.1 rfl (lv_room (Nat.le_of_ble_eq_true rfl)) dX9_years_51 ⟨Nat.le_of_ble_eq_true rfl, Nat.le_of_ble_eq_true rfl⟩) hS (fun q _ h => hFc q h) hFc (fun r_2 _ t H1 locs ht hvm hw hB hz1 hk1 hS => ?_)
      obtain ⟨hP1, hD1⟩ := hB
      rw [ht] at hP1
      obtain ⟨hP, hD⟩ := va_join (wr := [ai G h_less 6 less]) (w1 := [oc h 9 [.ref h_s, .ref h_images, .int kept, .ref h_tape, .int typed, .ref h_draft, .int atv, .ref h_items, .ref h_moved, .ref h_sizes, .ref h_lanes, .ref h_less, .ref h_aside, .ref h_order], ai G h_s 161 sv]) hP hD [0, 1] [2] rfl rfl (by decide) (by decide) hk1 hFc hP1 hD1
      clear hPc hDc hFc hP1 hD1 hz1 hk1 hvm
      generalize H1 = H at hP hS ⊢
      have hP : va_P G.1 gCl [ai G h_less 6 less, oc h 9 [.ref h_s, .ref h_images, .int kept, .ref h_tape, .int typed, .ref h_draft, .int atv, .ref h_items, .ref h_moved, .ref h_sizes, .ref h_lanes, .ref h_less, .ref h_aside, .ref h_order], ai G h_s 161 sv] H := hP
      have hD : va_D A [ai G h_less 6 less, oc h 9 [.ref h_s, .ref h_images, .int kept, .ref h_tape, .int typed, .ref h_draft, .int atv, .ref h_items, .ref h_moved, .ref h_sizes, .ref h_lanes, .ref h_less, .ref h_aside, .ref h_order], ai G h_s 161 sv] := hD
      have hP9 := hP.sub (ws' := [oc h 9 [.ref h_s, .ref h_images, .int kept, .ref h_tape, .int typed, .ref h_draft, .int atv, .ref h_items, .ref h_moved, .ref h_sizes, .ref h_lanes, .ref h_less, .ref h_aside, .ref h_order], ai G h_s 161 sv, ai G h_less 6 less]) [1, 2, 0] rfl
      have hD9 := hD.sub (ws' := [oc h 9 [.ref h_s, .ref h_images, .int kept, .ref h_tape, .int typed, .ref h_draft, .int atv, .ref h_items, .ref h_moved, .ref h_sizes, .ref h_lanes, .ref h_less, .ref h_aside, .ref h_order], ai G h_s 161 sv, ai G h_less 6 less]) [1, 2, 0] (by decide) rfl
      exact W.iret (v := r_2) hx hb hr (fun t ht hW => ⟨⟨r_2, (sv, less), rfl, hw, by rw [ht]; exact hP9, hD9⟩, hS.F ht⟩) hS.2.2 dX9_years_54
    · replace hw := hw.2 c_1
      refine lv_aload_n hx hb dX9_years_36 rfl (lv_at hl 0 rfl) ?_
      have hPc := hP.sub (ws' := [oc h 9 [.ref h_s, .ref h_images, .int kept, .ref h_tape, .int typed, .ref h_draft, .int atv, .ref h_items, .ref h_moved, .ref h_sizes, .ref h_lanes, .ref h_less, .ref h_aside, .ref h_order], ai G h_s 161 sv]) [0, 1] rfl
      have hDc := hD.sub (ws' := [oc h 9 [.ref h_s, .ref h_images, .int kept, .ref h_tape, .int typed, .ref h_draft, .int atv, .ref h_items, .ref h_moved, .ref h_sizes, .ref h_lanes, .ref h_less, .ref h_aside, .ref h_order], ai G h_s 161 sv]) [0, 1] (by decide) rfl
      have hFc := va_free (wc := [oc h 9 [.ref h_s, .ref h_images, .int kept, .ref h_tape, .int typed, .ref h_draft, .int atv, .ref h_items, .ref h_moved, .ref h_sizes, .ref h_lanes, .ref h_less, .ref h_aside, .ref h_order], ai G h_s 161 sv]) hD hS hA [0, 1] rfl
      refine va_callv (va_runV (As := []) (rest := []) ⟨hx, hb, hml, hown, hts⟩ (mt_X9_keeps l G h h_s h_images h_tape h_draft h_items h_moved h_sizes h_lanes h_less h_aside h_order H.size kept typed atv sv  _ hw) (cwV 0 hts (lw_V q968 q970 qs42 q65 q971) rfl rfl rfl (by decide +kernel) ⟨Nat.le_of_ble_eq_true rfl, Nat.le_of_ble_eq_true rfl⟩) ⟨fun a U g mk q => by obtain ⟨q0, q1, qP, qK, qD⟩ := q; exact ⟨q0, q1, qP, qK.call, qD⟩, va_recv hK.1 hP (ci := 9) (q0 := 0) rfl rfl, fun U hU hW => ⟨rfl, by rw [hU], by rw [hU]; exact hPc, hK.warm hW, hDc.weaken (fun _ _ _ _ => trivial)⟩⟩ rfl rfl hl.1 rfl (lv_room (Nat.le_of_ble_eq_true rfl)) dX9_years_37 ⟨Nat.le_of_ble_eq_true rfl, Nat.le_of_ble_eq_true rfl⟩) hS (fun q _ h => hFc q h) hFc (fun u_3 t H1 locs ht hvm hw hB hz1 hk1 hS => ?_)
      obtain ⟨hP1, hD1⟩ := hB
      rw [ht] at hP1
      obtain ⟨hP, hD⟩ := va_join (wr := [ai G h_less 6 less]) (w1 := [oc h 9 [.ref h_s, .ref h_images, .int kept, .ref h_tape, .int typed, .ref h_draft, .int atv, .ref h_items, .ref h_moved, .ref h_sizes, .ref h_lanes, .ref h_less, .ref h_aside, .ref h_order], ai G h_s 161 u_3]) hP hD [0, 1] [2] rfl rfl (by decide) (by decide) hk1 hFc hP1 hD1
      clear hPc hDc hFc hP1 hD1 hz1 hk1 hvm
      generalize H1 = H at hP hS ⊢
      have hP : va_P G.1 gCl [ai G h_less 6 less, oc h 9 [.ref h_s, .ref h_images, .int kept, .ref h_tape, .int typed, .ref h_draft, .int atv, .ref h_items, .ref h_moved, .ref h_sizes, .ref h_lanes, .ref h_less, .ref h_aside, .ref h_order], ai G h_s 161 u_3] H := hP
      have hD : va_D A [ai G h_less 6 less, oc h 9 [.ref h_s, .ref h_images, .int kept, .ref h_tape, .int typed, .ref h_draft, .int atv, .ref h_items, .ref h_moved, .ref h_sizes, .ref h_lanes, .ref h_less, .ref h_aside, .ref h_order], ai G h_s 161 u_3] := hD
      refine lv_aload_n hx hb dX9_years_40 rfl (lv_at hl 0 rfl) ?_
      have hPc := hP.sub (ws' := [oc h 9 [.ref h_s, .ref h_images, .int kept, .ref h_tape, .int typed, .ref h_draft, .int atv, .ref h_items, .ref h_moved, .ref h_sizes, .ref h_lanes, .ref h_less, .ref h_aside, .ref h_order], ai G h_s 161 u_3, ai G h_less 6 less]) [1, 2, 0] rfl
      have hDc := hD.sub (ws' := [oc h 9 [.ref h_s, .ref h_images, .int kept, .ref h_tape, .int typed, .ref h_draft, .int atv, .ref h_items, .ref h_moved, .ref h_sizes, .ref h_lanes, .ref h_less, .ref h_aside, .ref h_order], ai G h_s 161 u_3, ai G h_less 6 less]) [1, 2, 0] (by decide) rfl
      have hFc := va_free (wc := [oc h 9 [.ref h_s, .ref h_images, .int kept, .ref h_tape, .int typed, .ref h_draft, .int atv, .ref h_items, .ref h_moved, .ref h_sizes, .ref h_lanes, .ref h_less, .ref h_aside, .ref h_order], ai G h_s 161 u_3, ai G h_less 6 less]) hD hS hA [1, 2, 0] rfl
      refine va_callv (va_runV (As := []) (rest := []) ⟨hx, hb, hml, hown, hts⟩ (mt_X9_passes l G h h_s h_images h_tape h_draft h_items h_moved h_sizes h_lanes h_less h_aside h_order H.size kept typed atv u_3 less  _ hw) (cwV 0 hts (lw_V q972 q974 qs43 q65 q975) rfl rfl rfl (by decide +kernel) ⟨Nat.le_of_ble_eq_true rfl, Nat.le_of_ble_eq_true rfl⟩) ⟨fun a U g mk q => by obtain ⟨q0, q1, qP, qK, qD⟩ := q; exact ⟨q0, q1, qP, qK.call, qD⟩, va_recv hK.1 hP (ci := 9) (q0 := 1) rfl rfl, fun U hU hW => ⟨rfl, by rw [hU], by rw [hU]; exact hPc, hK.warm hW, hDc.weaken (fun _ _ _ _ => trivial)⟩⟩ rfl rfl hl.1 rfl (lv_room (Nat.le_of_ble_eq_true rfl)) dX9_years_41 ⟨Nat.le_of_ble_eq_true rfl, Nat.le_of_ble_eq_true rfl⟩) hS (fun q _ h => hFc q h) hFc (fun u_4 t H1 locs ht hvm hw hB hz1 hk1 hS => ?_)
      obtain ⟨hP1, hD1⟩ := hB
      rw [ht] at hP1
      obtain ⟨hP, hD⟩ := va_join (wr := []) (w1 := [oc h 9 [.ref h_s, .ref h_images, .int kept, .ref h_tape, .int typed, .ref h_draft, .int atv, .ref h_items, .ref h_moved, .ref h_sizes, .ref h_lanes, .ref h_less, .ref h_aside, .ref h_order], ai G h_s 161 u_4.1, ai G h_less 6 u_4.2]) hP hD [1, 2, 0] [] rfl rfl (by decide) (by decide) hk1 hFc hP1 hD1
      clear hPc hDc hFc hP1 hD1 hz1 hk1 hvm
      generalize H1 = H at hP hS ⊢
      have hP : va_P G.1 gCl [oc h 9 [.ref h_s, .ref h_images, .int kept, .ref h_tape, .int typed, .ref h_draft, .int atv, .ref h_items, .ref h_moved, .ref h_sizes, .ref h_lanes, .ref h_less, .ref h_aside, .ref h_order], ai G h_s 161 u_4.1, ai G h_less 6 u_4.2] H := hP
      have hD : va_D A [oc h 9 [.ref h_s, .ref h_images, .int kept, .ref h_tape, .int typed, .ref h_draft, .int atv, .ref h_items, .ref h_moved, .ref h_sizes, .ref h_lanes, .ref h_less, .ref h_aside, .ref h_order], ai G h_s 161 u_4.1, ai G h_less 6 u_4.2] := hD
      refine lv_iinc (v := (x2 + (1 : Int32))) (lv' := [(2, .int (x2 + (1 : Int32))), (0, .ref h), (1, .int p1)]) hx hb dX9_years_44 hl (k := 2) rfl rfl (by decide) rfl (fun ls hl => ?_)
      refine lv_goto (tgt := 31) hx hb dX9_years_47 (by decide) ?_
      exact ih u_4.1 u_4.2 (x2 + (1 : Int32)) H locs hP hD hS ls (lv_sub hl [1, 2, 0] rfl) hw
def wp_X9_years (sv : Nat → Int32) (less : Nat → Int32) (p1 : Int32) (Q : Int32 → ((Nat → Int32) × (Nat → Int32)) → Prop) : Prop :=
  wp_X9_in  p1 (1 : Int32) (40 : Int32) (fun r_1 => ((¬ (r_1 = 0) → (((((sv 2) + p1) ≤ (9999 : Int32)) → (∃ j_ : Nat, wp_X9_years_31 p1 Q  j_ sv less (0 : Int32))) ∧ (¬ (((sv 2) + p1) ≤ (9999 : Int32)) → Q (-3 : Int32) (sv, less)))) ∧ ((r_1 = 0) → Q (-1 : Int32) (sv, less))))
set_option maxHeartbeats 4000000 in
theorem mt_X9_years (l : Launch) (G : GT) (h h_s h_images h_tape h_draft h_items h_moved h_sizes h_lanes h_less h_aside h_order : Nat) (sz : Nat) (kept : Int32) (typed : Int32) (atv : Int32) (sv : Nat → Int32) (less : Nat → Int32) (p1 : Int32) (Q : Int32 → ((Nat → Int32) × (Nat → Int32)) → Prop) (hw : wp_X9_years sv less p1 Q) : Met l yX9_years (ws_ yX9_years cX9_years 3 (some .int)) ({ frames := 5, cells := 0, slots := 0, locals := 113 } : Room) (va_Pc [.ref h, .int p1] (fun U => U.heap.size = sz ∧ va_P G.1 gCl [oc h 9 [.ref h_s, .ref h_images, .int kept, .ref h_tape, .int typed, .ref h_draft, .int atv, .ref h_items, .ref h_moved, .ref h_sizes, .ref h_lanes, .ref h_less, .ref h_aside, .ref h_order], ai G h_s 161 sv, ai G h_less 6 less] U.heap ∧ gK G U ∧ va_D (fun _ => True) [oc h 9 [.ref h_s, .ref h_images, .int kept, .ref h_tape, .int typed, .ref h_draft, .int atv, .ref h_items, .ref h_moved, .ref h_sizes, .ref h_lanes, .ref h_less, .ref h_aside, .ref h_order], ai G h_s 161 sv, ai G h_less 6 less])) ((fun A => (va_Qi (fun (r : Int32) (u : (Nat → Int32) × (Nat → Int32)) => Q r u) (fun u t => va_P G.1 gCl [oc h 9 [.ref h_s, .ref h_images, .int kept, .ref h_tape, .int typed, .ref h_draft, .int atv, .ref h_items, .ref h_moved, .ref h_sizes, .ref h_lanes, .ref h_less, .ref h_aside, .ref h_order], ai G h_s 161 u.1, ai G h_less 6 u.2] t.heap ∧ va_D A [oc h 9 [.ref h_s, .ref h_images, .int kept, .ref h_tape, .int typed, .ref h_draft, .int atv, .ref h_items, .ref h_moved, .ref h_sizes, .ref h_lanes, .ref h_less, .ref h_aside, .ref h_order], ai G h_s 161 u.1, ai G h_less 6 u.2]) A)) (va_A [oc h 9 [.ref h_s, .ref h_images, .int kept, .ref h_tape, .int typed, .ref h_draft, .int atv, .ref h_items, .ref h_moved, .ref h_sizes, .ref h_lanes, .ref h_less, .ref h_aside, .ref h_order], ai G h_s 161 sv, ai G h_less 6 less] sz)) 0 0 (va_A [oc h 9 [.ref h_s, .ref h_images, .int kept, .ref h_tape, .int typed, .ref h_draft, .int atv, .ref h_items, .ref h_moved, .ref h_sizes, .ref h_lanes, .ref h_less, .ref h_aside, .ref h_order], ai G h_s 161 sv, ai G h_less 6 less] sz) := by
  refine Met.ofW (cc := cX9_years) (maxL := 3) (ret := (some .int)) (by decide) rfl ?_
  intro p e s m args below meth c s₁ B hml hv
  obtain ⟨rfl, hsz, hP, hK, hD0⟩ := hv
  have hx := B.exec
  have hb := B.bytes
  have hr := B.returns
  have hts := atoms_spec (ws := (ws_ yX9_years cX9_years 3 (some .int))) B.pre
  have hts : ∀ w ∈ lw_all, w.before _ s = true := fun w h => hts w (List.mem_cons_of_mem _ h)
  have hown : s.vm.findClass RX9 = some m.cls := findClass_of_methodNamed B.named
  have hlocks := B.notSynchronized
  subst hsz
  have hD := hD0.self (sz := s.heap.size)
  generalize hAe : va_A [oc h 9 [.ref h_s, .ref h_images, .int kept, .ref h_tape, .int typed, .ref h_draft, .int atv, .ref h_items, .ref h_moved, .ref h_sizes, .ref h_lanes, .ref h_less, .ref h_aside, .ref h_order], ai G h_s 161 sv, ai G h_less 6 less] s.heap.size = A at hD ⊢
  have hA : ∀ q : Nat, s.heap.size ≤ q → A q := fun q h => by rw [← hAe]; exact Or.inr h
  have hS : va_S A s.heap s.heap [] := va_S.rf
  have C : Cx p s m meth c cX9_years 3 (some .int) RX9 ([.ref h, .int p1] : List Value).toArray G A := ⟨hx, hb, hr, hlocks, hml, hown, hts, hK, hA⟩
  have hl := lv_entry ([.ref h, .int p1]) (n := 3) (Nat.le_of_ble_eq_true rfl)
  rw [lg_entry_eq]
  generalize (lg_sl ([.ref h, .int p1]) ++ List.replicate (3 - (lg_sl ([.ref h, .int p1])).length) Slot.unset).toArray = ls at hl ⊢
  have hl : lv_has ls 3 [(0, .ref h), (1, .int p1)] := hl
  unfold wp_X9_years at hw
  refine lv_iload_n hx hb dX9_years_0 rfl (lv_at hl 1 rfl) ?_
  refine lv_iconst (v := (1 : Int32)) hx hb dX9_years_1 (by decide) ?_
  refine lv_bipush (v := (40 : Int32)) hx hb dX9_years_2 (by decide) ?_
  have hPc := hP.sub (ws' := []) [] rfl
  have hDc := hD.sub (ws' := []) [] (by decide) rfl
  have hFc := va_free (wc := []) hD hS hA [] rfl
  refine va_calli (va_runS (As := [.int p1, .int (1 : Int32), .int (40 : Int32)]) (rest := []) ⟨hx, hb, hml, hown, hts⟩ (mt_X9_in l G  s.heap.size  p1 (1 : Int32) (40 : Int32) _ hw) (va_cwS 3 hts (lw_S q864 q865 q65 q866) rfl rfl rfl (by decide +kernel) ⟨Nat.le_of_ble_eq_true rfl, Nat.le_of_ble_eq_true rfl⟩) ⟨fun a U g mk q => by obtain ⟨q0, q1, qP, qK, qD⟩ := q; exact ⟨q0, q1, qP, qK.call, qD⟩, fun U hU hW => ⟨rfl, by rw [hU], by rw [hU]; exact hPc, hK.warm hW, hDc.weaken (fun _ _ _ _ => trivial)⟩⟩ rfl rfl hl.1 rfl (lv_room (Nat.le_of_ble_eq_true rfl)) dX9_years_4 ⟨Nat.le_of_ble_eq_true rfl, Nat.le_of_ble_eq_true rfl⟩) hS (fun q _ h => hFc q h) hFc (fun r_1 _ t H1 locs ht hvm hw hB hz1 hk1 hS => ?_)
  obtain ⟨hP1, hD1⟩ := hB
  rw [ht] at hP1
  obtain ⟨hP, hD⟩ := va_join (wr := [oc h 9 [.ref h_s, .ref h_images, .int kept, .ref h_tape, .int typed, .ref h_draft, .int atv, .ref h_items, .ref h_moved, .ref h_sizes, .ref h_lanes, .ref h_less, .ref h_aside, .ref h_order], ai G h_s 161 sv, ai G h_less 6 less]) (w1 := []) hP hD [] [0, 1, 2] rfl rfl (by decide) (by decide) hk1 hFc hP1 hD1
  clear hPc hDc hFc hP1 hD1 hz1 hk1 hvm
  generalize H1 = H at hP hS ⊢
  have hP : va_P G.1 gCl [oc h 9 [.ref h_s, .ref h_images, .int kept, .ref h_tape, .int typed, .ref h_draft, .int atv, .ref h_items, .ref h_moved, .ref h_sizes, .ref h_lanes, .ref h_less, .ref h_aside, .ref h_order], ai G h_s 161 sv, ai G h_less 6 less] H := hP
  have hD : va_D A [oc h 9 [.ref h_s, .ref h_images, .int kept, .ref h_tape, .int typed, .ref h_draft, .int atv, .ref h_items, .ref h_moved, .ref h_sizes, .ref h_lanes, .ref h_less, .ref h_aside, .ref h_order], ai G h_s 161 sv, ai G h_less 6 less] := hD
  refine lv_if_ne (tgt := 12) hx hb dX9_years_7 (by decide) (fun c_2 => ?_) (fun c_2 => ?_)
  · replace hw := hw.1 c_2
    refine lv_aload_n hx hb dX9_years_12 rfl (lv_at hl 0 rfl) ?_
    refine va_get (D := G.1) (ci := 9) (v := .ref h_s) (C := RX9) (T := TX9) (N := 14) hx hb hts in_X9 hown hK.1 hP 0 rfl rfl 0 (by decide) (hts _ q817) (fun _ h9 => h9) rfl dX9_years_13 ?_
    refine lv_iconst (v := (2 : Int32)) hx hb dX9_years_16 (by decide) ?_
    refine z_iald hx hb hK.1 hP 1 0 rfl rfl (vin_l (by decide +kernel)) dX9_years_17 (k := 2) rfl ?_
    refine lv_iload_n hx hb dX9_years_18 rfl (lv_at hl 1 rfl) ?_
    refine lv_iadd hx hb dX9_years_19 ?_
    refine lv_sipush (v := (9999 : Int32)) hx hb dX9_years_20 (by decide) ?_
    refine lv_icmp_le (tgt := 29) hx hb dX9_years_23 (by decide) (fun c_3 => ?_) (fun c_3 => ?_)
    · replace hw := hw.1 c_3
      refine lv_iconst (v := (0 : Int32)) hx hb dX9_years_29 (by decide) ?_
      refine lv_istore_n (lv' := [(2, .int (0 : Int32)), (0, .ref h), (1, .int p1)]) hx hb dX9_years_30 rfl hl (by decide) rfl (fun ls hl => ?_)
      obtain ⟨j_, hw⟩ := hw
      exact wk_X9_years_31 h h_s h_images h_tape h_draft h_items h_moved h_sizes h_lanes h_less h_aside h_order kept typed atv p1  Q  C  j_ sv less (0 : Int32) H locs hP hD hS ls (lv_sub hl [1, 2, 0] rfl) hw
    · replace hw := hw.2 c_3
      refine lv_bipush (v := (-3 : Int32)) hx hb dX9_years_26 (by decide) ?_
      have hP9 := hP
      have hD9 := hD
      exact W.iret (v := (-3 : Int32)) hx hb hr (fun t ht hW => ⟨⟨(-3 : Int32), (sv, less), rfl, hw, by rw [ht]; exact hP9, hD9⟩, hS.F ht⟩) hS.2.2 dX9_years_28
  · replace hw := hw.2 c_2
    refine lv_iconst (v := (-1 : Int32)) hx hb dX9_years_10 (by decide) ?_
    have hP9 := hP
    have hD9 := hD
    exact W.iret (v := (-1 : Int32)) hx hb hr (fun t ht hW => ⟨⟨(-1 : Int32), (sv, less), rfl, hw, by rw [ht]; exact hP9, hD9⟩, hS.F ht⟩) hS.2.2 dX9_years_11
/-! BattleBenchModel.changes(I)V -/
def wp_X9_changes (sv : Nat → Int32) (p1 : Int32) (Q : ((Nat → Int32)) → Prop) : Prop :=
  (vp_in ((10 : Int32) + p1) 161 ∧ (∀ v_2 : Int32, v_2 = (sv (((10 : Int32) + p1)).toNatClampNeg) → (vp_in (((10 : Int32) + p1) + (1 : Int32)) 161 ∧ (∀ v_4 : Int32, v_4 = (sv ((((10 : Int32) + p1) + (1 : Int32))).toNatClampNeg) → (vp_in ((10 : Int32) + p1) 161 ∧ ∀ f_6 : Nat → Int32, f_6 = upd sv (((10 : Int32) + p1)).toNatClampNeg v_4 → (vp_in (((10 : Int32) + p1) + (1 : Int32)) 161 ∧ ∀ f_8 : Nat → Int32, f_8 = upd f_6 ((((10 : Int32) + p1) + (1 : Int32))).toNatClampNeg v_2 → Q f_8))))))
set_option maxHeartbeats 4000000 in
theorem mt_X9_changes (l : Launch) (G : GT) (h h_s h_images h_tape h_draft h_items h_moved h_sizes h_lanes h_less h_aside h_order : Nat) (sz : Nat) (kept : Int32) (typed : Int32) (atv : Int32) (sv : Nat → Int32) (p1 : Int32) (Q : ((Nat → Int32)) → Prop) (hw : wp_X9_changes sv p1 Q) : Met l yX9_changes (ws_ yX9_changes cX9_changes 3 none) ({ frames := 0, cells := 0, slots := 0, locals := 0 } : Room) (va_Pc [.ref h, .int p1] (fun U => U.heap.size = sz ∧ va_P G.1 gCl [oc h 9 [.ref h_s, .ref h_images, .int kept, .ref h_tape, .int typed, .ref h_draft, .int atv, .ref h_items, .ref h_moved, .ref h_sizes, .ref h_lanes, .ref h_less, .ref h_aside, .ref h_order], ai G h_s 161 sv] U.heap ∧ gK G U ∧ va_D (fun _ => True) [oc h 9 [.ref h_s, .ref h_images, .int kept, .ref h_tape, .int typed, .ref h_draft, .int atv, .ref h_items, .ref h_moved, .ref h_sizes, .ref h_lanes, .ref h_less, .ref h_aside, .ref h_order], ai G h_s 161 sv])) ((fun A => (va_Qv (fun (u : (Nat → Int32)) => Q u) (fun u t => va_P G.1 gCl [oc h 9 [.ref h_s, .ref h_images, .int kept, .ref h_tape, .int typed, .ref h_draft, .int atv, .ref h_items, .ref h_moved, .ref h_sizes, .ref h_lanes, .ref h_less, .ref h_aside, .ref h_order], ai G h_s 161 u] t.heap ∧ va_D A [oc h 9 [.ref h_s, .ref h_images, .int kept, .ref h_tape, .int typed, .ref h_draft, .int atv, .ref h_items, .ref h_moved, .ref h_sizes, .ref h_lanes, .ref h_less, .ref h_aside, .ref h_order], ai G h_s 161 u]) A)) (va_A [oc h 9 [.ref h_s, .ref h_images, .int kept, .ref h_tape, .int typed, .ref h_draft, .int atv, .ref h_items, .ref h_moved, .ref h_sizes, .ref h_lanes, .ref h_less, .ref h_aside, .ref h_order], ai G h_s 161 sv] sz)) 0 0 (va_A [oc h 9 [.ref h_s, .ref h_images, .int kept, .ref h_tape, .int typed, .ref h_draft, .int atv, .ref h_items, .ref h_moved, .ref h_sizes, .ref h_lanes, .ref h_less, .ref h_aside, .ref h_order], ai G h_s 161 sv] sz) := by
  refine Met.ofW (cc := cX9_changes) (maxL := 3) (ret := none) (by decide) rfl ?_
  intro p e s m args below meth c s₁ B hml hv
  obtain ⟨rfl, hsz, hP, hK, hD0⟩ := hv
  have hx := B.exec
  have hb := B.bytes
  have hr := B.returns
  have hts := atoms_spec (ws := (ws_ yX9_changes cX9_changes 3 none)) B.pre
  have hts : ∀ w ∈ lw_all, w.before _ s = true := fun w h => hts w (List.mem_cons_of_mem _ h)
  have hown : s.vm.findClass RX9 = some m.cls := findClass_of_methodNamed B.named
  have hlocks := B.notSynchronized
  subst hsz
  have hD := hD0.self (sz := s.heap.size)
  generalize hAe : va_A [oc h 9 [.ref h_s, .ref h_images, .int kept, .ref h_tape, .int typed, .ref h_draft, .int atv, .ref h_items, .ref h_moved, .ref h_sizes, .ref h_lanes, .ref h_less, .ref h_aside, .ref h_order], ai G h_s 161 sv] s.heap.size = A at hD ⊢
  have hA : ∀ q : Nat, s.heap.size ≤ q → A q := fun q h => by rw [← hAe]; exact Or.inr h
  have hS : va_S A s.heap s.heap [] := va_S.rf
  have C : Cx p s m meth c cX9_changes 3 none RX9 ([.ref h, .int p1] : List Value).toArray G A := ⟨hx, hb, hr, hlocks, hml, hown, hts, hK, hA⟩
  have hl := lv_entry ([.ref h, .int p1]) (n := 3) (Nat.le_of_ble_eq_true rfl)
  rw [lg_entry_eq]
  generalize (lg_sl ([.ref h, .int p1]) ++ List.replicate (3 - (lg_sl ([.ref h, .int p1])).length) Slot.unset).toArray = ls at hl ⊢
  have hl : lv_has ls 3 [(0, .ref h), (1, .int p1)] := hl
  unfold wp_X9_changes at hw
  refine lv_aload_n hx hb dX9_changes_0 rfl (lv_at hl 0 rfl) ?_
  refine va_get (D := G.1) (ci := 9) (v := .ref h_s) (C := RX9) (T := TX9) (N := 14) hx hb hts in_X9 hown hK.1 hP 0 rfl rfl 0 (by decide) (hts _ q817) (fun _ h9 => h9) rfl dX9_changes_1 ?_
  refine lv_bipush (v := (10 : Int32)) hx hb dX9_changes_4 (by decide) ?_
  refine lv_iload_n hx hb dX9_changes_6 rfl (lv_at hl 1 rfl) ?_
  refine lv_iadd hx hb dX9_changes_7 ?_
  obtain ⟨i_1, hw⟩ := hw
  refine z_iald hx hb hK.1 hP 1 0 rfl rfl i_1 dX9_changes_8 (k := (((10 : Int32) + p1)).toNatClampNeg) rfl ?_
  refine lv_topi (fun v_2 ev_2 => ?_)
  replace hw := hw v_2 ev_2
  refine lv_istore_n (lv' := [(2, .int v_2), (0, .ref h), (1, .int p1)]) hx hb dX9_changes_9 rfl hl (by decide) rfl (fun ls hl => ?_)
  refine lv_aload_n hx hb dX9_changes_10 rfl (lv_at hl 1 rfl) ?_
  refine va_get (D := G.1) (ci := 9) (v := .ref h_s) (C := RX9) (T := TX9) (N := 14) hx hb hts in_X9 hown hK.1 hP 0 rfl rfl 0 (by decide) (hts _ q817) (fun _ h9 => h9) rfl dX9_changes_11 ?_
  refine lv_bipush (v := (10 : Int32)) hx hb dX9_changes_14 (by decide) ?_
  refine lv_iload_n hx hb dX9_changes_16 rfl (lv_at hl 2 rfl) ?_
  refine lv_iadd hx hb dX9_changes_17 ?_
  refine lv_aload_n hx hb dX9_changes_18 rfl (lv_at hl 1 rfl) ?_
  refine va_get (D := G.1) (ci := 9) (v := .ref h_s) (C := RX9) (T := TX9) (N := 14) hx hb hts in_X9 hown hK.1 hP 0 rfl rfl 0 (by decide) (hts _ q817) (fun _ h9 => h9) rfl dX9_changes_19 ?_
  refine lv_bipush (v := (10 : Int32)) hx hb dX9_changes_22 (by decide) ?_
  refine lv_iload_n hx hb dX9_changes_24 rfl (lv_at hl 2 rfl) ?_
  refine lv_iadd hx hb dX9_changes_25 ?_
  refine lv_iconst (v := (1 : Int32)) hx hb dX9_changes_26 (by decide) ?_
  refine lv_iadd hx hb dX9_changes_27 ?_
  obtain ⟨i_3, hw⟩ := hw
  refine z_iald hx hb hK.1 hP 1 0 rfl rfl i_3 dX9_changes_28 (k := ((((10 : Int32) + p1) + (1 : Int32))).toNatClampNeg) rfl ?_
  refine lv_topi (fun v_4 ev_4 => ?_)
  replace hw := hw v_4 ev_4
  obtain ⟨i_5, hw⟩ := hw
  refine z_iast hx hb hK.1 hP hD hS 1 0 rfl rfl i_5 dX9_changes_29 (k := (((10 : Int32) + p1)).toNatClampNeg) rfl (fun f_6 ef_6 H locs hP hD hS => ?_)
  replace hw := hw f_6 ef_6
  have hP : va_P G.1 gCl [oc h 9 [.ref h_s, .ref h_images, .int kept, .ref h_tape, .int typed, .ref h_draft, .int atv, .ref h_items, .ref h_moved, .ref h_sizes, .ref h_lanes, .ref h_less, .ref h_aside, .ref h_order], ai G h_s 161 f_6] H := hP
  have hD : va_D A [oc h 9 [.ref h_s, .ref h_images, .int kept, .ref h_tape, .int typed, .ref h_draft, .int atv, .ref h_items, .ref h_moved, .ref h_sizes, .ref h_lanes, .ref h_less, .ref h_aside, .ref h_order], ai G h_s 161 f_6] := hD
  refine lv_aload_n hx hb dX9_changes_30 rfl (lv_at hl 1 rfl) ?_
  refine va_get (D := G.1) (ci := 9) (v := .ref h_s) (C := RX9) (T := TX9) (N := 14) hx hb hts in_X9 hown hK.1 hP 0 rfl rfl 0 (by decide) (hts _ q817) (fun _ h9 => h9) rfl dX9_changes_31 ?_
  refine lv_bipush (v := (10 : Int32)) hx hb dX9_changes_34 (by decide) ?_
  refine lv_iload_n hx hb dX9_changes_36 rfl (lv_at hl 2 rfl) ?_
  refine lv_iadd hx hb dX9_changes_37 ?_
  refine lv_iconst (v := (1 : Int32)) hx hb dX9_changes_38 (by decide) ?_
  refine lv_iadd hx hb dX9_changes_39 ?_
  refine lv_iload_n hx hb dX9_changes_40 rfl (lv_at hl 0 rfl) ?_
  obtain ⟨i_7, hw⟩ := hw
  refine z_iast hx hb hK.1 hP hD hS 1 0 rfl rfl i_7 dX9_changes_41 (k := ((((10 : Int32) + p1) + (1 : Int32))).toNatClampNeg) rfl (fun f_8 ef_8 H locs hP hD hS => ?_)
  replace hw := hw f_8 ef_8
  have hP : va_P G.1 gCl [oc h 9 [.ref h_s, .ref h_images, .int kept, .ref h_tape, .int typed, .ref h_draft, .int atv, .ref h_items, .ref h_moved, .ref h_sizes, .ref h_lanes, .ref h_less, .ref h_aside, .ref h_order], ai G h_s 161 f_8] H := hP
  have hD : va_D A [oc h 9 [.ref h_s, .ref h_images, .int kept, .ref h_tape, .int typed, .ref h_draft, .int atv, .ref h_items, .ref h_moved, .ref h_sizes, .ref h_lanes, .ref h_less, .ref h_aside, .ref h_order], ai G h_s 161 f_8] := hD
  have hP9 := hP
  have hD9 := hD
  exact W.vret hx hb hr (fun t ht hW => ⟨⟨f_8, rfl, hw, by rw [ht]; exact hP9, hD9⟩, hS.F ht⟩) hS.2.2 dX9_changes_42
/-! BattleBenchModel.move(I)I -/
def wp_X9_move (sv : Nat → Int32) (p1 : Int32) (Q : Int32 → ((Nat → Int32)) → Prop) : Prop :=
  wp_X9_in  p1 (0 : Int32) ((sv 1) - (2 : Int32)) (fun r_1 => ((¬ (r_1 = 0) → wp_X9_keeps sv  (fun u_3 => wp_X9_changes u_3 p1 (fun u_4 => (vp_in ((10 : Int32) + p1) 161 ∧ Q (u_4 (((10 : Int32) + p1)).toNatClampNeg) u_4)))) ∧ ((r_1 = 0) → Q (-1 : Int32) sv)))
set_option maxHeartbeats 4000000 in
theorem mt_X9_move (l : Launch) (G : GT) (h h_s h_images h_tape h_draft h_items h_moved h_sizes h_lanes h_less h_aside h_order : Nat) (sz : Nat) (kept : Int32) (typed : Int32) (atv : Int32) (sv : Nat → Int32) (p1 : Int32) (Q : Int32 → ((Nat → Int32)) → Prop) (hw : wp_X9_move sv p1 Q) : Met l yX9_move (ws_ yX9_move cX9_move 2 (some .int)) ({ frames := 1, cells := 0, slots := 0, locals := 22 } : Room) (va_Pc [.ref h, .int p1] (fun U => U.heap.size = sz ∧ va_P G.1 gCl [oc h 9 [.ref h_s, .ref h_images, .int kept, .ref h_tape, .int typed, .ref h_draft, .int atv, .ref h_items, .ref h_moved, .ref h_sizes, .ref h_lanes, .ref h_less, .ref h_aside, .ref h_order], ai G h_s 161 sv] U.heap ∧ gK G U ∧ va_D (fun _ => True) [oc h 9 [.ref h_s, .ref h_images, .int kept, .ref h_tape, .int typed, .ref h_draft, .int atv, .ref h_items, .ref h_moved, .ref h_sizes, .ref h_lanes, .ref h_less, .ref h_aside, .ref h_order], ai G h_s 161 sv])) ((fun A => (va_Qi (fun (r : Int32) (u : (Nat → Int32)) => Q r u) (fun u t => va_P G.1 gCl [oc h 9 [.ref h_s, .ref h_images, .int kept, .ref h_tape, .int typed, .ref h_draft, .int atv, .ref h_items, .ref h_moved, .ref h_sizes, .ref h_lanes, .ref h_less, .ref h_aside, .ref h_order], ai G h_s 161 u] t.heap ∧ va_D A [oc h 9 [.ref h_s, .ref h_images, .int kept, .ref h_tape, .int typed, .ref h_draft, .int atv, .ref h_items, .ref h_moved, .ref h_sizes, .ref h_lanes, .ref h_less, .ref h_aside, .ref h_order], ai G h_s 161 u]) A)) (va_A [oc h 9 [.ref h_s, .ref h_images, .int kept, .ref h_tape, .int typed, .ref h_draft, .int atv, .ref h_items, .ref h_moved, .ref h_sizes, .ref h_lanes, .ref h_less, .ref h_aside, .ref h_order], ai G h_s 161 sv] sz)) 0 0 (va_A [oc h 9 [.ref h_s, .ref h_images, .int kept, .ref h_tape, .int typed, .ref h_draft, .int atv, .ref h_items, .ref h_moved, .ref h_sizes, .ref h_lanes, .ref h_less, .ref h_aside, .ref h_order], ai G h_s 161 sv] sz) := by
  refine Met.ofW (cc := cX9_move) (maxL := 2) (ret := (some .int)) (by decide) rfl ?_
  intro p e s m args below meth c s₁ B hml hv
  obtain ⟨rfl, hsz, hP, hK, hD0⟩ := hv
  have hx := B.exec
  have hb := B.bytes
  have hr := B.returns
  have hts := atoms_spec (ws := (ws_ yX9_move cX9_move 2 (some .int))) B.pre
  have hts : ∀ w ∈ lw_all, w.before _ s = true := fun w h => hts w (List.mem_cons_of_mem _ h)
  have hown : s.vm.findClass RX9 = some m.cls := findClass_of_methodNamed B.named
  have hlocks := B.notSynchronized
  subst hsz
  have hD := hD0.self (sz := s.heap.size)
  generalize hAe : va_A [oc h 9 [.ref h_s, .ref h_images, .int kept, .ref h_tape, .int typed, .ref h_draft, .int atv, .ref h_items, .ref h_moved, .ref h_sizes, .ref h_lanes, .ref h_less, .ref h_aside, .ref h_order], ai G h_s 161 sv] s.heap.size = A at hD ⊢
  have hA : ∀ q : Nat, s.heap.size ≤ q → A q := fun q h => by rw [← hAe]; exact Or.inr h
  have hS : va_S A s.heap s.heap [] := va_S.rf
  have C : Cx p s m meth c cX9_move 2 (some .int) RX9 ([.ref h, .int p1] : List Value).toArray G A := ⟨hx, hb, hr, hlocks, hml, hown, hts, hK, hA⟩
  have hl := lv_entry ([.ref h, .int p1]) (n := 2) (Nat.le_of_ble_eq_true rfl)
  rw [lg_entry_eq]
  generalize (lg_sl ([.ref h, .int p1]) ++ List.replicate (2 - (lg_sl ([.ref h, .int p1])).length) Slot.unset).toArray = ls at hl ⊢
  have hl : lv_has ls 2 [(0, .ref h), (1, .int p1)] := hl
  unfold wp_X9_move at hw
  refine lv_iload_n hx hb dX9_move_0 rfl (lv_at hl 1 rfl) ?_
  refine lv_iconst (v := (0 : Int32)) hx hb dX9_move_1 (by decide) ?_
  refine lv_aload_n hx hb dX9_move_2 rfl (lv_at hl 0 rfl) ?_
  refine va_get (D := G.1) (ci := 9) (v := .ref h_s) (C := RX9) (T := TX9) (N := 14) hx hb hts in_X9 hown hK.1 hP 0 rfl rfl 0 (by decide) (hts _ q817) (fun _ h9 => h9) rfl dX9_move_3 ?_
  refine lv_iconst (v := (1 : Int32)) hx hb dX9_move_6 (by decide) ?_
  refine z_iald hx hb hK.1 hP 1 0 rfl rfl (vin_l (by decide +kernel)) dX9_move_7 (k := 1) rfl ?_
  refine lv_iconst (v := (2 : Int32)) hx hb dX9_move_8 (by decide) ?_
  refine lv_isub hx hb dX9_move_9 ?_
  have hPc := hP.sub (ws' := []) [] rfl
  have hDc := hD.sub (ws' := []) [] (by decide) rfl
  have hFc := va_free (wc := []) hD hS hA [] rfl
  refine va_calli (va_runS (As := [.int p1, .int (0 : Int32), .int ((sv 1) - (2 : Int32))]) (rest := []) ⟨hx, hb, hml, hown, hts⟩ (mt_X9_in l G  s.heap.size  p1 (0 : Int32) ((sv 1) - (2 : Int32)) _ hw) (va_cwS 3 hts (lw_S q864 q865 q65 q866) rfl rfl rfl (by decide +kernel) ⟨Nat.le_of_ble_eq_true rfl, Nat.le_of_ble_eq_true rfl⟩) ⟨fun a U g mk q => by obtain ⟨q0, q1, qP, qK, qD⟩ := q; exact ⟨q0, q1, qP, qK.call, qD⟩, fun U hU hW => ⟨rfl, by rw [hU], by rw [hU]; exact hPc, hK.warm hW, hDc.weaken (fun _ _ _ _ => trivial)⟩⟩ rfl rfl hl.1 rfl (lv_room (Nat.le_of_ble_eq_true rfl)) dX9_move_10 ⟨Nat.le_of_ble_eq_true rfl, Nat.le_of_ble_eq_true rfl⟩) hS (fun q _ h => hFc q h) hFc (fun r_1 _ t H1 locs ht hvm hw hB hz1 hk1 hS => ?_)
  obtain ⟨hP1, hD1⟩ := hB
  rw [ht] at hP1
  obtain ⟨hP, hD⟩ := va_join (wr := [oc h 9 [.ref h_s, .ref h_images, .int kept, .ref h_tape, .int typed, .ref h_draft, .int atv, .ref h_items, .ref h_moved, .ref h_sizes, .ref h_lanes, .ref h_less, .ref h_aside, .ref h_order], ai G h_s 161 sv]) (w1 := []) hP hD [] [0, 1] rfl rfl (by decide) (by decide) hk1 hFc hP1 hD1
  clear hPc hDc hFc hP1 hD1 hz1 hk1 hvm
  generalize H1 = H at hP hS ⊢
  have hP : va_P G.1 gCl [oc h 9 [.ref h_s, .ref h_images, .int kept, .ref h_tape, .int typed, .ref h_draft, .int atv, .ref h_items, .ref h_moved, .ref h_sizes, .ref h_lanes, .ref h_less, .ref h_aside, .ref h_order], ai G h_s 161 sv] H := hP
  have hD : va_D A [oc h 9 [.ref h_s, .ref h_images, .int kept, .ref h_tape, .int typed, .ref h_draft, .int atv, .ref h_items, .ref h_moved, .ref h_sizes, .ref h_lanes, .ref h_less, .ref h_aside, .ref h_order], ai G h_s 161 sv] := hD
  refine lv_if_ne (tgt := 18) hx hb dX9_move_13 (by decide) (fun c_2 => ?_) (fun c_2 => ?_)
  · replace hw := hw.1 c_2
    refine lv_aload_n hx hb dX9_move_18 rfl (lv_at hl 0 rfl) ?_
    have hPc := hP.sub (ws' := [oc h 9 [.ref h_s, .ref h_images, .int kept, .ref h_tape, .int typed, .ref h_draft, .int atv, .ref h_items, .ref h_moved, .ref h_sizes, .ref h_lanes, .ref h_less, .ref h_aside, .ref h_order], ai G h_s 161 sv]) [0, 1] rfl
    have hDc := hD.sub (ws' := [oc h 9 [.ref h_s, .ref h_images, .int kept, .ref h_tape, .int typed, .ref h_draft, .int atv, .ref h_items, .ref h_moved, .ref h_sizes, .ref h_lanes, .ref h_less, .ref h_aside, .ref h_order], ai G h_s 161 sv]) [0, 1] (by decide) rfl
    have hFc := va_free (wc := [oc h 9 [.ref h_s, .ref h_images, .int kept, .ref h_tape, .int typed, .ref h_draft, .int atv, .ref h_items, .ref h_moved, .ref h_sizes, .ref h_lanes, .ref h_less, .ref h_aside, .ref h_order], ai G h_s 161 sv]) hD hS hA [0, 1] rfl
    refine va_callv (va_runV (As := []) (rest := []) ⟨hx, hb, hml, hown, hts⟩ (mt_X9_keeps l G h h_s h_images h_tape h_draft h_items h_moved h_sizes h_lanes h_less h_aside h_order H.size kept typed atv sv  _ hw) (cwV 0 hts (lw_V q968 q970 qs42 q65 q971) rfl rfl rfl (by decide +kernel) ⟨Nat.le_of_ble_eq_true rfl, Nat.le_of_ble_eq_true rfl⟩) ⟨fun a U g mk q => by obtain ⟨q0, q1, qP, qK, qD⟩ := q; exact ⟨q0, q1, qP, qK.call, qD⟩, va_recv hK.1 hP (ci := 9) (q0 := 0) rfl rfl, fun U hU hW => ⟨rfl, by rw [hU], by rw [hU]; exact hPc, hK.warm hW, hDc.weaken (fun _ _ _ _ => trivial)⟩⟩ rfl rfl hl.1 rfl (lv_room (Nat.le_of_ble_eq_true rfl)) dX9_move_19 ⟨Nat.le_of_ble_eq_true rfl, Nat.le_of_ble_eq_true rfl⟩) hS (fun q _ h => hFc q h) hFc (fun u_3 t H1 locs ht hvm hw hB hz1 hk1 hS => ?_)
    obtain ⟨hP1, hD1⟩ := hB
    rw [ht] at hP1
    obtain ⟨hP, hD⟩ := va_join (wr := []) (w1 := [oc h 9 [.ref h_s, .ref h_images, .int kept, .ref h_tape, .int typed, .ref h_draft, .int atv, .ref h_items, .ref h_moved, .ref h_sizes, .ref h_lanes, .ref h_less, .ref h_aside, .ref h_order], ai G h_s 161 u_3]) hP hD [0, 1] [] rfl rfl (by decide) (by decide) hk1 hFc hP1 hD1
    clear hPc hDc hFc hP1 hD1 hz1 hk1 hvm
    generalize H1 = H at hP hS ⊢
    have hP : va_P G.1 gCl [oc h 9 [.ref h_s, .ref h_images, .int kept, .ref h_tape, .int typed, .ref h_draft, .int atv, .ref h_items, .ref h_moved, .ref h_sizes, .ref h_lanes, .ref h_less, .ref h_aside, .ref h_order], ai G h_s 161 u_3] H := hP
    have hD : va_D A [oc h 9 [.ref h_s, .ref h_images, .int kept, .ref h_tape, .int typed, .ref h_draft, .int atv, .ref h_items, .ref h_moved, .ref h_sizes, .ref h_lanes, .ref h_less, .ref h_aside, .ref h_order], ai G h_s 161 u_3] := hD
    refine lv_aload_n hx hb dX9_move_22 rfl (lv_at hl 0 rfl) ?_
    refine lv_iload_n hx hb dX9_move_23 rfl (lv_at hl 1 rfl) ?_
    have hPc := hP.sub (ws' := [oc h 9 [.ref h_s, .ref h_images, .int kept, .ref h_tape, .int typed, .ref h_draft, .int atv, .ref h_items, .ref h_moved, .ref h_sizes, .ref h_lanes, .ref h_less, .ref h_aside, .ref h_order], ai G h_s 161 u_3]) [0, 1] rfl
    have hDc := hD.sub (ws' := [oc h 9 [.ref h_s, .ref h_images, .int kept, .ref h_tape, .int typed, .ref h_draft, .int atv, .ref h_items, .ref h_moved, .ref h_sizes, .ref h_lanes, .ref h_less, .ref h_aside, .ref h_order], ai G h_s 161 u_3]) [0, 1] (by decide) rfl
    have hFc := va_free (wc := [oc h 9 [.ref h_s, .ref h_images, .int kept, .ref h_tape, .int typed, .ref h_draft, .int atv, .ref h_items, .ref h_moved, .ref h_sizes, .ref h_lanes, .ref h_less, .ref h_aside, .ref h_order], ai G h_s 161 u_3]) hD hS hA [0, 1] rfl
    refine va_callv (va_runV (As := [.int p1]) (rest := []) ⟨hx, hb, hml, hown, hts⟩ (mt_X9_changes l G h h_s h_images h_tape h_draft h_items h_moved h_sizes h_lanes h_less h_aside h_order H.size kept typed atv u_3 p1 _ hw) (cwV 1 hts (lw_V q983 q985 qs44 q65 q986) rfl rfl rfl (by decide +kernel) ⟨Nat.le_of_ble_eq_true rfl, Nat.le_of_ble_eq_true rfl⟩) ⟨fun a U g mk q => by obtain ⟨q0, q1, qP, qK, qD⟩ := q; exact ⟨q0, q1, qP, qK.call, qD⟩, va_recv hK.1 hP (ci := 9) (q0 := 0) rfl rfl, fun U hU hW => ⟨rfl, by rw [hU], by rw [hU]; exact hPc, hK.warm hW, hDc.weaken (fun _ _ _ _ => trivial)⟩⟩ rfl rfl hl.1 rfl (lv_room (Nat.le_of_ble_eq_true rfl)) dX9_move_24 ⟨Nat.le_of_ble_eq_true rfl, Nat.le_of_ble_eq_true rfl⟩) hS (fun q _ h => hFc q h) hFc (fun u_4 t H1 locs ht hvm hw hB hz1 hk1 hS => ?_)
    obtain ⟨hP1, hD1⟩ := hB
    rw [ht] at hP1
    obtain ⟨hP, hD⟩ := va_join (wr := []) (w1 := [oc h 9 [.ref h_s, .ref h_images, .int kept, .ref h_tape, .int typed, .ref h_draft, .int atv, .ref h_items, .ref h_moved, .ref h_sizes, .ref h_lanes, .ref h_less, .ref h_aside, .ref h_order], ai G h_s 161 u_4]) hP hD [0, 1] [] rfl rfl (by decide) (by decide) hk1 hFc hP1 hD1
    clear hPc hDc hFc hP1 hD1 hz1 hk1 hvm
    generalize H1 = H at hP hS ⊢
    have hP : va_P G.1 gCl [oc h 9 [.ref h_s, .ref h_images, .int kept, .ref h_tape, .int typed, .ref h_draft, .int atv, .ref h_items, .ref h_moved, .ref h_sizes, .ref h_lanes, .ref h_less, .ref h_aside, .ref h_order], ai G h_s 161 u_4] H := hP
    have hD : va_D A [oc h 9 [.ref h_s, .ref h_images, .int kept, .ref h_tape, .int typed, .ref h_draft, .int atv, .ref h_items, .ref h_moved, .ref h_sizes, .ref h_lanes, .ref h_less, .ref h_aside, .ref h_order], ai G h_s 161 u_4] := hD
    refine lv_aload_n hx hb dX9_move_27 rfl (lv_at hl 0 rfl) ?_
    refine va_get (D := G.1) (ci := 9) (v := .ref h_s) (C := RX9) (T := TX9) (N := 14) hx hb hts in_X9 hown hK.1 hP 0 rfl rfl 0 (by decide) (hts _ q817) (fun _ h9 => h9) rfl dX9_move_28 ?_
    refine lv_bipush (v := (10 : Int32)) hx hb dX9_move_31 (by decide) ?_
    refine lv_iload_n hx hb dX9_move_33 rfl (lv_at hl 1 rfl) ?_
    refine lv_iadd hx hb dX9_move_34 ?_
    obtain ⟨i_5, hw⟩ := hw
    refine z_iald hx hb hK.1 hP 1 0 rfl rfl i_5 dX9_move_35 (k := (((10 : Int32) + p1)).toNatClampNeg) rfl ?_
    have hP9 := hP
    have hD9 := hD
    exact W.iret (v := (u_4 (((10 : Int32) + p1)).toNatClampNeg)) hx hb hr (fun t ht hW => ⟨⟨(u_4 (((10 : Int32) + p1)).toNatClampNeg), u_4, rfl, hw, by rw [ht]; exact hP9, hD9⟩, hS.F ht⟩) hS.2.2 dX9_move_36
  · replace hw := hw.2 c_2
    refine lv_iconst (v := (-1 : Int32)) hx hb dX9_move_16 (by decide) ?_
    have hP9 := hP
    have hD9 := hD
    exact W.iret (v := (-1 : Int32)) hx hb hr (fun t ht hW => ⟨⟨(-1 : Int32), sv, rfl, hw, by rw [ht]; exact hP9, hD9⟩, hS.F ht⟩) hS.2.2 dX9_move_17
/-! BattleBenchModel.nurse(II)I -/
def wp_X9_nurse (sv : Nat → Int32) (p1 : Int32) (p2 : Int32) (Q : Int32 → ((Nat → Int32)) → Prop) : Prop :=
  wp_X9_isMan sv p1 (fun r_1 => (((r_1 = 0) → Q (-1 : Int32) sv) ∧ (¬ (r_1 = 0) → wp_X9_in  p2 (1 : Int32) (60 : Int32) (fun r_3 => ((¬ (r_3 = 0) → wp_X9_seatOf sv p1 (fun r_5 => ((¬ (r_5 = (-4 : Int32)) → wp_X9_keeps sv  (fun u_7 => (vp_in ((4 : Int32) + p1) 161 ∧ (∀ v_9 : Int32, v_9 = ((u_7 (((4 : Int32) + p1)).toNatClampNeg) + p2) → (((v_9 ≤ (60 : Int32)) → (vp_in ((4 : Int32) + p1) 161 ∧ ∀ f_12 : Nat → Int32, f_12 = upd u_7 (((4 : Int32) + p1)).toNatClampNeg v_9 → (vp_in ((4 : Int32) + p1) 161 ∧ Q (f_12 (((4 : Int32) + p1)).toNatClampNeg) f_12))) ∧ (¬ (v_9 ≤ (60 : Int32)) → (vp_in ((4 : Int32) + p1) 161 ∧ ∀ f_15 : Nat → Int32, f_15 = upd u_7 (((4 : Int32) + p1)).toNatClampNeg (60 : Int32) → (vp_in ((4 : Int32) + p1) 161 ∧ Q (f_15 (((4 : Int32) + p1)).toNatClampNeg) f_15)))))))) ∧ ((r_5 = (-4 : Int32)) → Q (-2 : Int32) sv)))) ∧ ((r_3 = 0) → Q (-1 : Int32) sv))))))
set_option maxHeartbeats 4000000 in
theorem mt_X9_nurse (l : Launch) (G : GT) (h h_s h_images h_tape h_draft h_items h_moved h_sizes h_lanes h_less h_aside h_order : Nat) (sz : Nat) (kept : Int32) (typed : Int32) (atv : Int32) (sv : Nat → Int32) (p1 : Int32) (p2 : Int32) (Q : Int32 → ((Nat → Int32)) → Prop) (hw : wp_X9_nurse sv p1 p2 Q) : Met l yX9_nurse (ws_ yX9_nurse cX9_nurse 4 (some .int)) ({ frames := 2, cells := 0, slots := 0, locals := 43 } : Room) (va_Pc [.ref h, .int p1, .int p2] (fun U => U.heap.size = sz ∧ va_P G.1 gCl [oc h 9 [.ref h_s, .ref h_images, .int kept, .ref h_tape, .int typed, .ref h_draft, .int atv, .ref h_items, .ref h_moved, .ref h_sizes, .ref h_lanes, .ref h_less, .ref h_aside, .ref h_order], ai G h_s 161 sv] U.heap ∧ gK G U ∧ va_D (fun _ => True) [oc h 9 [.ref h_s, .ref h_images, .int kept, .ref h_tape, .int typed, .ref h_draft, .int atv, .ref h_items, .ref h_moved, .ref h_sizes, .ref h_lanes, .ref h_less, .ref h_aside, .ref h_order], ai G h_s 161 sv])) ((fun A => (va_Qi (fun (r : Int32) (u : (Nat → Int32)) => Q r u) (fun u t => va_P G.1 gCl [oc h 9 [.ref h_s, .ref h_images, .int kept, .ref h_tape, .int typed, .ref h_draft, .int atv, .ref h_items, .ref h_moved, .ref h_sizes, .ref h_lanes, .ref h_less, .ref h_aside, .ref h_order], ai G h_s 161 u] t.heap ∧ va_D A [oc h 9 [.ref h_s, .ref h_images, .int kept, .ref h_tape, .int typed, .ref h_draft, .int atv, .ref h_items, .ref h_moved, .ref h_sizes, .ref h_lanes, .ref h_less, .ref h_aside, .ref h_order], ai G h_s 161 u]) A)) (va_A [oc h 9 [.ref h_s, .ref h_images, .int kept, .ref h_tape, .int typed, .ref h_draft, .int atv, .ref h_items, .ref h_moved, .ref h_sizes, .ref h_lanes, .ref h_less, .ref h_aside, .ref h_order], ai G h_s 161 sv] sz)) 0 0 (va_A [oc h 9 [.ref h_s, .ref h_images, .int kept, .ref h_tape, .int typed, .ref h_draft, .int atv, .ref h_items, .ref h_moved, .ref h_sizes, .ref h_lanes, .ref h_less, .ref h_aside, .ref h_order], ai G h_s 161 sv] sz) := by
  refine Met.ofW (cc := cX9_nurse) (maxL := 4) (ret := (some .int)) (by decide) rfl ?_
  intro p e s m args below meth c s₁ B hml hv
  obtain ⟨rfl, hsz, hP, hK, hD0⟩ := hv
  have hx := B.exec
  have hb := B.bytes
  have hr := B.returns
  have hts := atoms_spec (ws := (ws_ yX9_nurse cX9_nurse 4 (some .int))) B.pre
  have hts : ∀ w ∈ lw_all, w.before _ s = true := fun w h => hts w (List.mem_cons_of_mem _ h)
  have hown : s.vm.findClass RX9 = some m.cls := findClass_of_methodNamed B.named
  have hlocks := B.notSynchronized
  subst hsz
  have hD := hD0.self (sz := s.heap.size)
  generalize hAe : va_A [oc h 9 [.ref h_s, .ref h_images, .int kept, .ref h_tape, .int typed, .ref h_draft, .int atv, .ref h_items, .ref h_moved, .ref h_sizes, .ref h_lanes, .ref h_less, .ref h_aside, .ref h_order], ai G h_s 161 sv] s.heap.size = A at hD ⊢
  have hA : ∀ q : Nat, s.heap.size ≤ q → A q := fun q h => by rw [← hAe]; exact Or.inr h
  have hS : va_S A s.heap s.heap [] := va_S.rf
  have C : Cx p s m meth c cX9_nurse 4 (some .int) RX9 ([.ref h, .int p1, .int p2] : List Value).toArray G A := ⟨hx, hb, hr, hlocks, hml, hown, hts, hK, hA⟩
  have hl := lv_entry ([.ref h, .int p1, .int p2]) (n := 4) (Nat.le_of_ble_eq_true rfl)
  rw [lg_entry_eq]
  generalize (lg_sl ([.ref h, .int p1, .int p2]) ++ List.replicate (4 - (lg_sl ([.ref h, .int p1, .int p2])).length) Slot.unset).toArray = ls at hl ⊢
  have hl : lv_has ls 4 [(0, .ref h), (1, .int p1), (2, .int p2)] := hl
  unfold wp_X9_nurse at hw
  refine lv_aload_n hx hb dX9_nurse_0 rfl (lv_at hl 0 rfl) ?_
  refine lv_iload_n hx hb dX9_nurse_1 rfl (lv_at hl 1 rfl) ?_
  have hPc := hP.sub (ws' := [oc h 9 [.ref h_s, .ref h_images, .int kept, .ref h_tape, .int typed, .ref h_draft, .int atv, .ref h_items, .ref h_moved, .ref h_sizes, .ref h_lanes, .ref h_less, .ref h_aside, .ref h_order], ai G h_s 161 sv]) [0, 1] rfl
  have hDc := hD.sub (ws' := [oc h 9 [.ref h_s, .ref h_images, .int kept, .ref h_tape, .int typed, .ref h_draft, .int atv, .ref h_items, .ref h_moved, .ref h_sizes, .ref h_lanes, .ref h_less, .ref h_aside, .ref h_order], ai G h_s 161 sv]) [0, 1] (by decide) rfl
  have hFc := va_free (wc := [oc h 9 [.ref h_s, .ref h_images, .int kept, .ref h_tape, .int typed, .ref h_draft, .int atv, .ref h_items, .ref h_moved, .ref h_sizes, .ref h_lanes, .ref h_less, .ref h_aside, .ref h_order], ai G h_s 161 sv]) hD hS hA [0, 1] rfl
  refine va_calli (va_runV (As := [.int p1]) (rest := []) ⟨hx, hb, hml, hown, hts⟩ (mt_X9_isMan l G h h_s h_images h_tape h_draft h_items h_moved h_sizes h_lanes h_less h_aside h_order s.heap.size kept typed atv sv p1 _ hw) (cwV 1 hts (lw_V q875 q877 qs27 q65 q878) rfl rfl rfl (by decide +kernel) ⟨Nat.le_of_ble_eq_true rfl, Nat.le_of_ble_eq_true rfl⟩) ⟨fun a U g mk q => by obtain ⟨q0, q1, qP, qK, qD⟩ := q; exact ⟨q0, q1, qP, qK.call, qD⟩, va_recv hK.1 hP (ci := 9) (q0 := 0) rfl rfl, fun U hU hW => ⟨rfl, by rw [hU], by rw [hU]; exact hPc, hK.warm hW, hDc.weaken (fun _ _ _ _ => trivial)⟩⟩ rfl rfl hl.1 rfl (lv_room (Nat.le_of_ble_eq_true rfl)) dX9_nurse_2 ⟨Nat.le_of_ble_eq_true rfl, Nat.le_of_ble_eq_true rfl⟩) hS (fun q _ h => hFc q h) hFc (fun r_1 _ t H1 locs ht hvm hw hB hz1 hk1 hS => ?_)
  obtain ⟨hP1, hD1⟩ := hB
  rw [ht] at hP1
  obtain ⟨hP, hD⟩ := va_join (wr := []) (w1 := [oc h 9 [.ref h_s, .ref h_images, .int kept, .ref h_tape, .int typed, .ref h_draft, .int atv, .ref h_items, .ref h_moved, .ref h_sizes, .ref h_lanes, .ref h_less, .ref h_aside, .ref h_order], ai G h_s 161 sv]) hP hD [0, 1] [] rfl rfl (by decide) (by decide) hk1 hFc hP1 hD1
  clear hPc hDc hFc hP1 hD1 hz1 hk1 hvm
  generalize H1 = H at hP hS ⊢
  have hP : va_P G.1 gCl [oc h 9 [.ref h_s, .ref h_images, .int kept, .ref h_tape, .int typed, .ref h_draft, .int atv, .ref h_items, .ref h_moved, .ref h_sizes, .ref h_lanes, .ref h_less, .ref h_aside, .ref h_order], ai G h_s 161 sv] H := hP
  have hD : va_D A [oc h 9 [.ref h_s, .ref h_images, .int kept, .ref h_tape, .int typed, .ref h_draft, .int atv, .ref h_items, .ref h_moved, .ref h_sizes, .ref h_lanes, .ref h_less, .ref h_aside, .ref h_order], ai G h_s 161 sv] := hD
  refine lv_if_eq (tgt := 18) hx hb dX9_nurse_5 (by decide) (fun c_2 => ?_) (fun c_2 => ?_)
  · replace hw := hw.1 c_2
    refine lv_iconst (v := (-1 : Int32)) hx hb dX9_nurse_18 (by decide) ?_
    have hP9 := hP
    have hD9 := hD
    exact W.iret (v := (-1 : Int32)) hx hb hr (fun t ht hW => ⟨⟨(-1 : Int32), sv, rfl, hw, by rw [ht]; exact hP9, hD9⟩, hS.F ht⟩) hS.2.2 dX9_nurse_19
  · replace hw := hw.2 c_2
    refine lv_iload_n hx hb dX9_nurse_8 rfl (lv_at hl 2 rfl) ?_
    refine lv_iconst (v := (1 : Int32)) hx hb dX9_nurse_9 (by decide) ?_
    refine lv_bipush (v := (60 : Int32)) hx hb dX9_nurse_10 (by decide) ?_
    have hPc := hP.sub (ws' := []) [] rfl
    have hDc := hD.sub (ws' := []) [] (by decide) rfl
    have hFc := va_free (wc := []) hD hS hA [] rfl
    refine va_calli (va_runS (As := [.int p2, .int (1 : Int32), .int (60 : Int32)]) (rest := []) ⟨hx, hb, hml, hown, hts⟩ (mt_X9_in l G  H.size  p2 (1 : Int32) (60 : Int32) _ hw) (va_cwS 3 hts (lw_S q864 q865 q65 q866) rfl rfl rfl (by decide +kernel) ⟨Nat.le_of_ble_eq_true rfl, Nat.le_of_ble_eq_true rfl⟩) ⟨fun a U g mk q => by obtain ⟨q0, q1, qP, qK, qD⟩ := q; exact ⟨q0, q1, qP, qK.call, qD⟩, fun U hU hW => ⟨rfl, by rw [hU], by rw [hU]; exact hPc, hK.warm hW, hDc.weaken (fun _ _ _ _ => trivial)⟩⟩ rfl rfl hl.1 rfl (lv_room (Nat.le_of_ble_eq_true rfl)) dX9_nurse_12 ⟨Nat.le_of_ble_eq_true rfl, Nat.le_of_ble_eq_true rfl⟩) hS (fun q _ h => hFc q h) hFc (fun r_3 _ t H1 locs ht hvm hw hB hz1 hk1 hS => ?_)
    obtain ⟨hP1, hD1⟩ := hB
    rw [ht] at hP1
    obtain ⟨hP, hD⟩ := va_join (wr := [oc h 9 [.ref h_s, .ref h_images, .int kept, .ref h_tape, .int typed, .ref h_draft, .int atv, .ref h_items, .ref h_moved, .ref h_sizes, .ref h_lanes, .ref h_less, .ref h_aside, .ref h_order], ai G h_s 161 sv]) (w1 := []) hP hD [] [0, 1] rfl rfl (by decide) (by decide) hk1 hFc hP1 hD1
    clear hPc hDc hFc hP1 hD1 hz1 hk1 hvm
    generalize H1 = H at hP hS ⊢
    have hP : va_P G.1 gCl [oc h 9 [.ref h_s, .ref h_images, .int kept, .ref h_tape, .int typed, .ref h_draft, .int atv, .ref h_items, .ref h_moved, .ref h_sizes, .ref h_lanes, .ref h_less, .ref h_aside, .ref h_order], ai G h_s 161 sv] H := hP
    have hD : va_D A [oc h 9 [.ref h_s, .ref h_images, .int kept, .ref h_tape, .int typed, .ref h_draft, .int atv, .ref h_items, .ref h_moved, .ref h_sizes, .ref h_lanes, .ref h_less, .ref h_aside, .ref h_order], ai G h_s 161 sv] := hD
    refine lv_if_ne (tgt := 20) hx hb dX9_nurse_15 (by decide) (fun c_4 => ?_) (fun c_4 => ?_)
    · replace hw := hw.1 c_4
      refine lv_aload_n hx hb dX9_nurse_20 rfl (lv_at hl 0 rfl) ?_
      refine lv_iload_n hx hb dX9_nurse_21 rfl (lv_at hl 1 rfl) ?_
      have hPc := hP.sub (ws' := [oc h 9 [.ref h_s, .ref h_images, .int kept, .ref h_tape, .int typed, .ref h_draft, .int atv, .ref h_items, .ref h_moved, .ref h_sizes, .ref h_lanes, .ref h_less, .ref h_aside, .ref h_order], ai G h_s 161 sv]) [0, 1] rfl
      have hDc := hD.sub (ws' := [oc h 9 [.ref h_s, .ref h_images, .int kept, .ref h_tape, .int typed, .ref h_draft, .int atv, .ref h_items, .ref h_moved, .ref h_sizes, .ref h_lanes, .ref h_less, .ref h_aside, .ref h_order], ai G h_s 161 sv]) [0, 1] (by decide) rfl
      have hFc := va_free (wc := [oc h 9 [.ref h_s, .ref h_images, .int kept, .ref h_tape, .int typed, .ref h_draft, .int atv, .ref h_items, .ref h_moved, .ref h_sizes, .ref h_lanes, .ref h_less, .ref h_aside, .ref h_order], ai G h_s 161 sv]) hD hS hA [0, 1] rfl
      refine va_calli (va_runV (As := [.int p1]) (rest := []) ⟨hx, hb, hml, hown, hts⟩ (mt_X9_seatOf l G h h_s h_images h_tape h_draft h_items h_moved h_sizes h_lanes h_less h_aside h_order H.size kept typed atv sv p1 _ hw) (cwV 1 hts (lw_V q883 q885 qs28 q65 q886) rfl rfl rfl (by decide +kernel) ⟨Nat.le_of_ble_eq_true rfl, Nat.le_of_ble_eq_true rfl⟩) ⟨fun a U g mk q => by obtain ⟨q0, q1, qP, qK, qD⟩ := q; exact ⟨q0, q1, qP, qK.call, qD⟩, va_recv hK.1 hP (ci := 9) (q0 := 0) rfl rfl, fun U hU hW => ⟨rfl, by rw [hU], by rw [hU]; exact hPc, hK.warm hW, hDc.weaken (fun _ _ _ _ => trivial)⟩⟩ rfl rfl hl.1 rfl (lv_room (Nat.le_of_ble_eq_true rfl)) dX9_nurse_22 ⟨Nat.le_of_ble_eq_true rfl, Nat.le_of_ble_eq_true rfl⟩) hS (fun q _ h => hFc q h) hFc (fun r_5 _ t H1 locs ht hvm hw hB hz1 hk1 hS => ?_)
      obtain ⟨hP1, hD1⟩ := hB
      rw [ht] at hP1
      obtain ⟨hP, hD⟩ := va_join (wr := []) (w1 := [oc h 9 [.ref h_s, .ref h_images, .int kept, .ref h_tape, .int typed, .ref h_draft, .int atv, .ref h_items, .ref h_moved, .ref h_sizes, .ref h_lanes, .ref h_less, .ref h_aside, .ref h_order], ai G h_s 161 sv]) hP hD [0, 1] [] rfl rfl (by decide) (by decide) hk1 hFc hP1 hD1
      clear hPc hDc hFc hP1 hD1 hz1 hk1 hvm
      generalize H1 = H at hP hS ⊢
      have hP : va_P G.1 gCl [oc h 9 [.ref h_s, .ref h_images, .int kept, .ref h_tape, .int typed, .ref h_draft, .int atv, .ref h_items, .ref h_moved, .ref h_sizes, .ref h_lanes, .ref h_less, .ref h_aside, .ref h_order], ai G h_s 161 sv] H := hP
      have hD : va_D A [oc h 9 [.ref h_s, .ref h_images, .int kept, .ref h_tape, .int typed, .ref h_draft, .int atv, .ref h_items, .ref h_moved, .ref h_sizes, .ref h_lanes, .ref h_less, .ref h_aside, .ref h_order], ai G h_s 161 sv] := hD
      refine lv_bipush (v := (-4 : Int32)) hx hb dX9_nurse_25 (by decide) ?_
      refine lv_icmp_ne (tgt := 33) hx hb dX9_nurse_27 (by decide) (fun c_6 => ?_) (fun c_6 => ?_)
      · replace hw := hw.1 c_6
        refine lv_aload_n hx hb dX9_nurse_33 rfl (lv_at hl 0 rfl) ?_
        have hPc := hP.sub (ws' := [oc h 9 [.ref h_s, .ref h_images, .int kept, .ref h_tape, .int typed, .ref h_draft, .int atv, .ref h_items, .ref h_moved, .ref h_sizes, .ref h_lanes, .ref h_less, .ref h_aside, .ref h_order], ai G h_s 161 sv]) [0, 1] rfl
        have hDc := hD.sub (ws' := [oc h 9 [.ref h_s, .ref h_images, .int kept, .ref h_tape, .int typed, .ref h_draft, .int atv, .ref h_items, .ref h_moved, .ref h_sizes, .ref h_lanes, .ref h_less, .ref h_aside, .ref h_order], ai G h_s 161 sv]) [0, 1] (by decide) rfl
        have hFc := va_free (wc := [oc h 9 [.ref h_s, .ref h_images, .int kept, .ref h_tape, .int typed, .ref h_draft, .int atv, .ref h_items, .ref h_moved, .ref h_sizes, .ref h_lanes, .ref h_less, .ref h_aside, .ref h_order], ai G h_s 161 sv]) hD hS hA [0, 1] rfl
        refine va_callv (va_runV (As := []) (rest := []) ⟨hx, hb, hml, hown, hts⟩ (mt_X9_keeps l G h h_s h_images h_tape h_draft h_items h_moved h_sizes h_lanes h_less h_aside h_order H.size kept typed atv sv  _ hw) (cwV 0 hts (lw_V q968 q970 qs42 q65 q971) rfl rfl rfl (by decide +kernel) ⟨Nat.le_of_ble_eq_true rfl, Nat.le_of_ble_eq_true rfl⟩) ⟨fun a U g mk q => by obtain ⟨q0, q1, qP, qK, qD⟩ := q; exact ⟨q0, q1, qP, qK.call, qD⟩, va_recv hK.1 hP (ci := 9) (q0 := 0) rfl rfl, fun U hU hW => ⟨rfl, by rw [hU], by rw [hU]; exact hPc, hK.warm hW, hDc.weaken (fun _ _ _ _ => trivial)⟩⟩ rfl rfl hl.1 rfl (lv_room (Nat.le_of_ble_eq_true rfl)) dX9_nurse_34 ⟨Nat.le_of_ble_eq_true rfl, Nat.le_of_ble_eq_true rfl⟩) hS (fun q _ h => hFc q h) hFc (fun u_7 t H1 locs ht hvm hw hB hz1 hk1 hS => ?_)
        obtain ⟨hP1, hD1⟩ := hB
        rw [ht] at hP1
        obtain ⟨hP, hD⟩ := va_join (wr := []) (w1 := [oc h 9 [.ref h_s, .ref h_images, .int kept, .ref h_tape, .int typed, .ref h_draft, .int atv, .ref h_items, .ref h_moved, .ref h_sizes, .ref h_lanes, .ref h_less, .ref h_aside, .ref h_order], ai G h_s 161 u_7]) hP hD [0, 1] [] rfl rfl (by decide) (by decide) hk1 hFc hP1 hD1
        clear hPc hDc hFc hP1 hD1 hz1 hk1 hvm
        generalize H1 = H at hP hS ⊢
        have hP : va_P G.1 gCl [oc h 9 [.ref h_s, .ref h_images, .int kept, .ref h_tape, .int typed, .ref h_draft, .int atv, .ref h_items, .ref h_moved, .ref h_sizes, .ref h_lanes, .ref h_less, .ref h_aside, .ref h_order], ai G h_s 161 u_7] H := hP
        have hD : va_D A [oc h 9 [.ref h_s, .ref h_images, .int kept, .ref h_tape, .int typed, .ref h_draft, .int atv, .ref h_items, .ref h_moved, .ref h_sizes, .ref h_lanes, .ref h_less, .ref h_aside, .ref h_order], ai G h_s 161 u_7] := hD
        refine lv_aload_n hx hb dX9_nurse_37 rfl (lv_at hl 0 rfl) ?_
        refine va_get (D := G.1) (ci := 9) (v := .ref h_s) (C := RX9) (T := TX9) (N := 14) hx hb hts in_X9 hown hK.1 hP 0 rfl rfl 0 (by decide) (hts _ q817) (fun _ h9 => h9) rfl dX9_nurse_38 ?_
        refine lv_iconst (v := (4 : Int32)) hx hb dX9_nurse_41 (by decide) ?_
        refine lv_iload_n hx hb dX9_nurse_42 rfl (lv_at hl 1 rfl) ?_
        refine lv_iadd hx hb dX9_nurse_43 ?_
        obtain ⟨i_8, hw⟩ := hw
        refine z_iald hx hb hK.1 hP 1 0 rfl rfl i_8 dX9_nurse_44 (k := (((4 : Int32) + p1)).toNatClampNeg) rfl ?_
        refine lv_iload_n hx hb dX9_nurse_45 rfl (lv_at hl 2 rfl) ?_
        refine lv_iadd hx hb dX9_nurse_46 ?_
        refine lv_topi (fun v_9 ev_9 => ?_)
        replace hw := hw v_9 ev_9
        refine lv_istore_n (lv' := [(3, .int v_9), (0, .ref h), (1, .int p1), (2, .int p2)]) hx hb dX9_nurse_47 rfl hl (by decide) rfl (fun ls hl => ?_)
        refine lv_aload_n hx hb dX9_nurse_48 rfl (lv_at hl 1 rfl) ?_
        refine va_get (D := G.1) (ci := 9) (v := .ref h_s) (C := RX9) (T := TX9) (N := 14) hx hb hts in_X9 hown hK.1 hP 0 rfl rfl 0 (by decide) (hts _ q817) (fun _ h9 => h9) rfl dX9_nurse_49 ?_
        refine lv_iconst (v := (4 : Int32)) hx hb dX9_nurse_52 (by decide) ?_
        refine lv_iload_n hx hb dX9_nurse_53 rfl (lv_at hl 2 rfl) ?_
        refine lv_iadd hx hb dX9_nurse_54 ?_
        refine lv_iload_n hx hb dX9_nurse_55 rfl (lv_at hl 0 rfl) ?_
        refine lv_bipush (v := (60 : Int32)) hx hb dX9_nurse_56 (by decide) ?_
        refine lv_icmp_le (tgt := 66) hx hb dX9_nurse_58 (by decide) (fun c_10 => ?_) (fun c_10 => ?_)
        · replace hw := hw.1 c_10
          refine lv_iload_n hx hb dX9_nurse_66 rfl (lv_at hl 0 rfl) ?_
          obtain ⟨i_11, hw⟩ := hw
          refine z_iast hx hb hK.1 hP hD hS 1 0 rfl rfl i_11 dX9_nurse_67 (k := (((4 : Int32) + p1)).toNatClampNeg) rfl (fun f_12 ef_12 H locs hP hD hS => ?_)
          replace hw := hw f_12 ef_12
          have hP : va_P G.1 gCl [oc h 9 [.ref h_s, .ref h_images, .int kept, .ref h_tape, .int typed, .ref h_draft, .int atv, .ref h_items, .ref h_moved, .ref h_sizes, .ref h_lanes, .ref h_less, .ref h_aside, .ref h_order], ai G h_s 161 f_12] H := hP
          have hD : va_D A [oc h 9 [.ref h_s, .ref h_images, .int kept, .ref h_tape, .int typed, .ref h_draft, .int atv, .ref h_items, .ref h_moved, .ref h_sizes, .ref h_lanes, .ref h_less, .ref h_aside, .ref h_order], ai G h_s 161 f_12] := hD
          refine lv_aload_n hx hb dX9_nurse_68 rfl (lv_at hl 1 rfl) ?_
          refine va_get (D := G.1) (ci := 9) (v := .ref h_s) (C := RX9) (T := TX9) (N := 14) hx hb hts in_X9 hown hK.1 hP 0 rfl rfl 0 (by decide) (hts _ q817) (fun _ h9 => h9) rfl dX9_nurse_69 ?_
          refine lv_iconst (v := (4 : Int32)) hx hb dX9_nurse_72 (by decide) ?_
          refine lv_iload_n hx hb dX9_nurse_73 rfl (lv_at hl 2 rfl) ?_
          refine lv_iadd hx hb dX9_nurse_74 ?_
          obtain ⟨i_13, hw⟩ := hw
          refine z_iald hx hb hK.1 hP 1 0 rfl rfl i_13 dX9_nurse_75 (k := (((4 : Int32) + p1)).toNatClampNeg) rfl ?_
          have hP9 := hP
          have hD9 := hD
          exact W.iret (v := (f_12 (((4 : Int32) + p1)).toNatClampNeg)) hx hb hr (fun t ht hW => ⟨⟨(f_12 (((4 : Int32) + p1)).toNatClampNeg), f_12, rfl, hw, by rw [ht]; exact hP9, hD9⟩, hS.F ht⟩) hS.2.2 dX9_nurse_76
        · replace hw := hw.2 c_10
          refine lv_bipush (v := (60 : Int32)) hx hb dX9_nurse_61 (by decide) ?_
          refine lv_goto (tgt := 67) hx hb dX9_nurse_63 (by decide) ?_
          obtain ⟨i_14, hw⟩ := hw
          refine z_iast hx hb hK.1 hP hD hS 1 0 rfl rfl i_14 dX9_nurse_67 (k := (((4 : Int32) + p1)).toNatClampNeg) rfl (fun f_15 ef_15 H locs hP hD hS => ?_)
          replace hw := hw f_15 ef_15
          have hP : va_P G.1 gCl [oc h 9 [.ref h_s, .ref h_images, .int kept, .ref h_tape, .int typed, .ref h_draft, .int atv, .ref h_items, .ref h_moved, .ref h_sizes, .ref h_lanes, .ref h_less, .ref h_aside, .ref h_order], ai G h_s 161 f_15] H := hP
          have hD : va_D A [oc h 9 [.ref h_s, .ref h_images, .int kept, .ref h_tape, .int typed, .ref h_draft, .int atv, .ref h_items, .ref h_moved, .ref h_sizes, .ref h_lanes, .ref h_less, .ref h_aside, .ref h_order], ai G h_s 161 f_15] := hD
          refine lv_aload_n hx hb dX9_nurse_68 rfl (lv_at hl 1 rfl) ?_
          refine va_get (D := G.1) (ci := 9) (v := .ref h_s) (C := RX9) (T := TX9) (N := 14) hx hb hts in_X9 hown hK.1 hP 0 rfl rfl 0 (by decide) (hts _ q817) (fun _ h9 => h9) rfl dX9_nurse_69 ?_
          refine lv_iconst (v := (4 : Int32)) hx hb dX9_nurse_72 (by decide) ?_
          refine lv_iload_n hx hb dX9_nurse_73 rfl (lv_at hl 2 rfl) ?_
          refine lv_iadd hx hb dX9_nurse_74 ?_
          obtain ⟨i_16, hw⟩ := hw
          refine z_iald hx hb hK.1 hP 1 0 rfl rfl i_16 dX9_nurse_75 (k := (((4 : Int32) + p1)).toNatClampNeg) rfl ?_
          have hP9 := hP
          have hD9 := hD
          exact W.iret (v := (f_15 (((4 : Int32) + p1)).toNatClampNeg)) hx hb hr (fun t ht hW => ⟨⟨(f_15 (((4 : Int32) + p1)).toNatClampNeg), f_15, rfl, hw, by rw [ht]; exact hP9, hD9⟩, hS.F ht⟩) hS.2.2 dX9_nurse_76
      · replace hw := hw.2 c_6
        refine lv_bipush (v := (-2 : Int32)) hx hb dX9_nurse_30 (by decide) ?_
        have hP9 := hP
        have hD9 := hD
        exact W.iret (v := (-2 : Int32)) hx hb hr (fun t ht hW => ⟨⟨(-2 : Int32), sv, rfl, hw, by rw [ht]; exact hP9, hD9⟩, hS.F ht⟩) hS.2.2 dX9_nurse_32
    · replace hw := hw.2 c_4
      refine lv_iconst (v := (-1 : Int32)) hx hb dX9_nurse_18 (by decide) ?_
      have hP9 := hP
      have hD9 := hD
      exact W.iret (v := (-1 : Int32)) hx hb hr (fun t ht hW => ⟨⟨(-1 : Int32), sv, rfl, hw, by rw [ht]; exact hP9, hD9⟩, hS.F ht⟩) hS.2.2 dX9_nurse_19
/-! BattleBenchModel.drift(I)I -/
def wp_X9_drift_31 (p1 : Int32) (Q : Int32 → ((Nat → Int32) × (Nat → Int32)) → Prop)  : Nat → (Nat → Int32) → (Nat → Int32) → Int32 → Prop
  | 0, _, _, _ => False
  | n + 1, sv, less, x2 =>
    (((p1 ≤ x2) → wp_X9_bench sv  (fun r_2 => Q r_2 (sv, less))) ∧ (¬ (p1 ≤ x2) → wp_X9_keeps sv  (fun u_3 => (∀ v_4 : Int32, v_4 = ((((u_3 3) * (1103515245 : Int32)) + (12345 : Int32)) &&& (2147483647 : Int32)) → (∀ f_5 : Nat → Int32, f_5 = upd u_3 3 v_4 → ((((f_5 1) ≤ (1 : Int32)) → wp_X9_passes f_5 less  (fun u_7 => wp_X9_drift_31 p1 Q  n u_7.1 u_7.2 (x2 + (1 : Int32)))) ∧ (¬ ((f_5 1) ≤ (1 : Int32)) → (¬ ((f_5 1) - (1 : Int32)) = 0 ∧ wp_X9_changes f_5 (((f_5 3) / (65536 : Int32)) - ((f_5 3) / (65536 : Int32)) / ((f_5 1) - (1 : Int32)) * ((f_5 1) - (1 : Int32))) (fun u_9 => wp_X9_passes u_9 less  (fun u_10 => wp_X9_drift_31 p1 Q  n u_10.1 u_10.2 (x2 + (1 : Int32))))))))))))
set_option maxHeartbeats 4000000 in
theorem wk_X9_drift_31 {p : Program} {l : Launch} {e : Env} {s : State} {m : MethodId} {below : List Frame} {meth : Method} {c : Code} {args : Array Value} {G : GT} {A : Nat → Prop} (h h_s h_images h_tape h_draft h_items h_moved h_sizes h_lanes h_less h_aside h_order : Nat) (kept : Int32) (typed : Int32) (atv : Int32) (p1 : Int32) (Q : Int32 → ((Nat → Int32) × (Nat → Int32)) → Prop)  (C : Cx p s m meth c cX9_drift 3 (some .int) RX9 args G A)  :
    ∀ (n : Nat), ∀  (sv : Nat → Int32) (less : Nat → Int32) (x2 : Int32) (H : Heap) (locs : List Loc), va_P G.1 gCl [oc h 9 [.ref h_s, .ref h_images, .int kept, .ref h_tape, .int typed, .ref h_draft, .int atv, .ref h_items, .ref h_moved, .ref h_sizes, .ref h_lanes, .ref h_less, .ref h_aside, .ref h_order], ai G h_s 161 sv, ai G h_less 6 less] H → va_D A [oc h 9 [.ref h_s, .ref h_images, .int kept, .ref h_tape, .int typed, .ref h_draft, .int atv, .ref h_items, .ref h_moved, .ref h_sizes, .ref h_lanes, .ref h_less, .ref h_aside, .ref h_order], ai G h_s 161 sv, ai G h_less 6 less] → va_S A s.heap H locs → ∀ (ls : Array Slot), lv_has ls 3 [(0, .ref h), (1, .int p1), (2, .int x2)] → wp_X9_drift_31 p1 Q  n sv less x2 → W p l e ({ frames := 5, cells := 0, slots := 0, locals := 113 } : Room) s m args below meth c H locs 0 0 (MQ below (va_Qi (fun (r : Int32) (u : (Nat → Int32) × (Nat → Int32)) => Q r u) (fun u t => va_P G.1 gCl [oc h 9 [.ref h_s, .ref h_images, .int kept, .ref h_tape, .int typed, .ref h_draft, .int atv, .ref h_items, .ref h_moved, .ref h_sizes, .ref h_lanes, .ref h_less, .ref h_aside, .ref h_order], ai G h_s 161 u.1, ai G h_less 6 u.2] t.heap ∧ va_D A [oc h 9 [.ref h_s, .ref h_images, .int kept, .ref h_tape, .int typed, .ref h_draft, .int atv, .ref h_items, .ref h_moved, .ref h_sizes, .ref h_lanes, .ref h_less, .ref h_aside, .ref h_order], ai G h_s 161 u.1, ai G h_less 6 u.2]) A) args s 0 0 A) (F0 m 31 ls []) := by
  have C9 := C
  obtain ⟨hx, hb, hr, hlocks, hml, hown, hts, hK, hA⟩ := C9
  intro n
  induction n with
  | zero => intro sv less x2 H locs hP hD hS ls hl hw; exact False.elim hw
  | succ n ih =>
    intro sv less x2 H locs hP hD hS ls hl hw
    unfold wp_X9_drift_31 at hw
    refine lv_iload_n hx hb dX9_drift_31 rfl (lv_at hl 2 rfl) ?_
    refine lv_iload_n hx hb dX9_drift_32 rfl (lv_at hl 1 rfl) ?_
    refine lv_icmp_ge (tgt := 104) hx hb dX9_drift_33 (by decide) (fun c_1 => ?_) (fun c_1 => ?_)
    · replace hw := hw.1 c_1
      refine lv_aload_n hx hb dX9_drift_104 rfl (lv_at hl 0 rfl) ?_
      have hPc := hP.sub (ws' := [oc h 9 [.ref h_s, .ref h_images, .int kept, .ref h_tape, .int typed, .ref h_draft, .int atv, .ref h_items, .ref h_moved, .ref h_sizes, .ref h_lanes, .ref h_less, .ref h_aside, .ref h_order], ai G h_s 161 sv]) [0, 1] rfl
      have hDc := hD.sub (ws' := [oc h 9 [.ref h_s, .ref h_images, .int kept, .ref h_tape, .int typed, .ref h_draft, .int atv, .ref h_items, .ref h_moved, .ref h_sizes, .ref h_lanes, .ref h_less, .ref h_aside, .ref h_order], ai G h_s 161 sv]) [0, 1] (by decide) rfl
      have hFc := va_free (wc := [oc h 9 [.ref h_s, .ref h_images, .int kept, .ref h_tape, .int typed, .ref h_draft, .int atv, .ref h_items, .ref h_moved, .ref h_sizes, .ref h_lanes, .ref h_less, .ref h_aside, .ref h_order], ai G h_s 161 sv]) hD hS hA [0, 1] rfl
      refine va_calli (va_runV (As := []) (rest := []) ⟨hx, hb, hml, hown, hts⟩ (mt_X9_bench l G h h_s h_images h_tape h_draft h_items h_moved h_sizes h_lanes h_less h_aside h_order H.size kept typed atv sv  _ hw) (cwV 0 hts (lw_V q952 q954 qs39 q65 q955) rfl rfl rfl (by decide +kernel) ⟨Nat.le_of_ble_eq_true rfl, Nat.le_of_ble_eq_true rfl⟩) ⟨fun a U g mk q => by obtain ⟨q0, q1, qP, qK, qD⟩ := q; exact ⟨q0, q1, qP, qK.call, qD⟩, va_recv hK.1 hP (ci := 9) (q0 := 0) rfl rfl, fun U hU hW => ⟨rfl, by rw [hU], by rw [hU]; exact hPc, hK.warm hW, hDc.weaken (fun _ _ _ _ => trivial)⟩⟩ rfl rfl hl.1 rfl (lv_room (Nat.le_of_ble_eq_true rfl)) dX9_drift_105 ⟨Nat.le_of_ble_eq_true rfl, Nat.le_of_ble_eq_true rfl⟩) hS (fun q _ h => hFc q h) hFc (fun r_2 _ t H1 locs ht hvm hw hB hz1 hk1 hS => ?_)
      obtain ⟨hP1, hD1⟩ := hB
      rw [ht] at hP1
      obtain ⟨hP, hD⟩ := va_join (wr := [ai G h_less 6 less]) (w1 := [oc h 9 [.ref h_s, .ref h_images, .int kept, .ref h_tape, .int typed, .ref h_draft, .int atv, .ref h_items, .ref h_moved, .ref h_sizes, .ref h_lanes, .ref h_less, .ref h_aside, .ref h_order], ai G h_s 161 sv]) hP hD [0, 1] [2] rfl rfl (by decide) (by decide) hk1 hFc hP1 hD1
      clear hPc hDc hFc hP1 hD1 hz1 hk1 hvm
      generalize H1 = H at hP hS ⊢
      have hP : va_P G.1 gCl [ai G h_less 6 less, oc h 9 [.ref h_s, .ref h_images, .int kept, .ref h_tape, .int typed, .ref h_draft, .int atv, .ref h_items, .ref h_moved, .ref h_sizes, .ref h_lanes, .ref h_less, .ref h_aside, .ref h_order], ai G h_s 161 sv] H := hP
      have hD : va_D A [ai G h_less 6 less, oc h 9 [.ref h_s, .ref h_images, .int kept, .ref h_tape, .int typed, .ref h_draft, .int atv, .ref h_items, .ref h_moved, .ref h_sizes, .ref h_lanes, .ref h_less, .ref h_aside, .ref h_order], ai G h_s 161 sv] := hD
      have hP9 := hP.sub (ws' := [oc h 9 [.ref h_s, .ref h_images, .int kept, .ref h_tape, .int typed, .ref h_draft, .int atv, .ref h_items, .ref h_moved, .ref h_sizes, .ref h_lanes, .ref h_less, .ref h_aside, .ref h_order], ai G h_s 161 sv, ai G h_less 6 less]) [1, 2, 0] rfl
      have hD9 := hD.sub (ws' := [oc h 9 [.ref h_s, .ref h_images, .int kept, .ref h_tape, .int typed, .ref h_draft, .int atv, .ref h_items, .ref h_moved, .ref h_sizes, .ref h_lanes, .ref h_less, .ref h_aside, .ref h_order], ai G h_s 161 sv, ai G h_less 6 less]) [1, 2, 0] (by decide) rfl
      exact W.iret (v := r_2) hx hb hr (fun t ht hW => ⟨⟨r_2, (sv, less), rfl, hw, by rw [ht]; exact hP9, hD9⟩, hS.F ht⟩) hS.2.2 dX9_drift_108
    · replace hw := hw.2 c_1
      refine lv_aload_n hx hb dX9_drift_36 rfl (lv_at hl 0 rfl) ?_
      have hPc := hP.sub (ws' := [oc h 9 [.ref h_s, .ref h_images, .int kept, .ref h_tape, .int typed, .ref h_draft, .int atv, .ref h_items, .ref h_moved, .ref h_sizes, .ref h_lanes, .ref h_less, .ref h_aside, .ref h_order], ai G h_s 161 sv]) [0, 1] rfl
      have hDc := hD.sub (ws' := [oc h 9 [.ref h_s, .ref h_images, .int kept, .ref h_tape, .int typed, .ref h_draft, .int atv, .ref h_items, .ref h_moved, .ref h_sizes, .ref h_lanes, .ref h_less, .ref h_aside, .ref h_order], ai G h_s 161 sv]) [0, 1] (by decide) rfl
      have hFc := va_free (wc := [oc h 9 [.ref h_s, .ref h_images, .int kept, .ref h_tape, .int typed, .ref h_draft, .int atv, .ref h_items, .ref h_moved, .ref h_sizes, .ref h_lanes, .ref h_less, .ref h_aside, .ref h_order], ai G h_s 161 sv]) hD hS hA [0, 1] rfl
      refine va_callv (va_runV (As := []) (rest := []) ⟨hx, hb, hml, hown, hts⟩ (mt_X9_keeps l G h h_s h_images h_tape h_draft h_items h_moved h_sizes h_lanes h_less h_aside h_order H.size kept typed atv sv  _ hw) (cwV 0 hts (lw_V q968 q970 qs42 q65 q971) rfl rfl rfl (by decide +kernel) ⟨Nat.le_of_ble_eq_true rfl, Nat.le_of_ble_eq_true rfl⟩) ⟨fun a U g mk q => by obtain ⟨q0, q1, qP, qK, qD⟩ := q; exact ⟨q0, q1, qP, qK.call, qD⟩, va_recv hK.1 hP (ci := 9) (q0 := 0) rfl rfl, fun U hU hW => ⟨rfl, by rw [hU], by rw [hU]; exact hPc, hK.warm hW, hDc.weaken (fun _ _ _ _ => trivial)⟩⟩ rfl rfl hl.1 rfl (lv_room (Nat.le_of_ble_eq_true rfl)) dX9_drift_37 ⟨Nat.le_of_ble_eq_true rfl, Nat.le_of_ble_eq_true rfl⟩) hS (fun q _ h => hFc q h) hFc (fun u_3 t H1 locs ht hvm hw hB hz1 hk1 hS => ?_)
      obtain ⟨hP1, hD1⟩ := hB
      rw [ht] at hP1
      obtain ⟨hP, hD⟩ := va_join (wr := [ai G h_less 6 less]) (w1 := [oc h 9 [.ref h_s, .ref h_images, .int kept, .ref h_tape, .int typed, .ref h_draft, .int atv, .ref h_items, .ref h_moved, .ref h_sizes, .ref h_lanes, .ref h_less, .ref h_aside, .ref h_order], ai G h_s 161 u_3]) hP hD [0, 1] [2] rfl rfl (by decide) (by decide) hk1 hFc hP1 hD1
      clear hPc hDc hFc hP1 hD1 hz1 hk1 hvm
      generalize H1 = H at hP hS ⊢
      have hP : va_P G.1 gCl [ai G h_less 6 less, oc h 9 [.ref h_s, .ref h_images, .int kept, .ref h_tape, .int typed, .ref h_draft, .int atv, .ref h_items, .ref h_moved, .ref h_sizes, .ref h_lanes, .ref h_less, .ref h_aside, .ref h_order], ai G h_s 161 u_3] H := hP
      have hD : va_D A [ai G h_less 6 less, oc h 9 [.ref h_s, .ref h_images, .int kept, .ref h_tape, .int typed, .ref h_draft, .int atv, .ref h_items, .ref h_moved, .ref h_sizes, .ref h_lanes, .ref h_less, .ref h_aside, .ref h_order], ai G h_s 161 u_3] := hD
      refine lv_aload_n hx hb dX9_drift_40 rfl (lv_at hl 0 rfl) ?_
      refine va_get (D := G.1) (ci := 9) (v := .ref h_s) (C := RX9) (T := TX9) (N := 14) hx hb hts in_X9 hown hK.1 hP 1 rfl rfl 0 (by decide) (hts _ q817) (fun _ h9 => h9) rfl dX9_drift_41 ?_
      refine lv_iconst (v := (3 : Int32)) hx hb dX9_drift_44 (by decide) ?_
      refine lv_aload_n hx hb dX9_drift_45 rfl (lv_at hl 0 rfl) ?_
      refine va_get (D := G.1) (ci := 9) (v := .ref h_s) (C := RX9) (T := TX9) (N := 14) hx hb hts in_X9 hown hK.1 hP 1 rfl rfl 0 (by decide) (hts _ q817) (fun _ h9 => h9) rfl dX9_drift_46 ?_
      refine lv_iconst (v := (3 : Int32)) hx hb dX9_drift_49 (by decide) ?_
      refine z_iald hx hb hK.1 hP 2 0 rfl rfl (vin_l (by decide +kernel)) dX9_drift_50 (k := 3) rfl ?_
      refine lv_ldc (v := (1103515245 : Int32)) hx hb hown (hts _ q995) dX9_drift_51 ?_
      refine lv_imul hx hb dX9_drift_53 ?_
      refine lv_sipush (v := (12345 : Int32)) hx hb dX9_drift_54 (by decide) ?_
      refine lv_iadd hx hb dX9_drift_57 ?_
      refine lv_ldc (v := (2147483647 : Int32)) hx hb hown (hts _ q996) dX9_drift_58 ?_
      refine lv_iand hx hb dX9_drift_60 ?_
      refine lv_topi (fun v_4 ev_4 => ?_)
      replace hw := hw v_4 ev_4
      refine z_iast hx hb hK.1 hP hD hS 2 0 rfl rfl (vin_l (by decide +kernel)) dX9_drift_61 (k := 3) rfl (fun f_5 ef_5 H locs hP hD hS => ?_)
      replace hw := hw f_5 ef_5
      have hP : va_P G.1 gCl [ai G h_less 6 less, oc h 9 [.ref h_s, .ref h_images, .int kept, .ref h_tape, .int typed, .ref h_draft, .int atv, .ref h_items, .ref h_moved, .ref h_sizes, .ref h_lanes, .ref h_less, .ref h_aside, .ref h_order], ai G h_s 161 f_5] H := hP
      have hD : va_D A [ai G h_less 6 less, oc h 9 [.ref h_s, .ref h_images, .int kept, .ref h_tape, .int typed, .ref h_draft, .int atv, .ref h_items, .ref h_moved, .ref h_sizes, .ref h_lanes, .ref h_less, .ref h_aside, .ref h_order], ai G h_s 161 f_5] := hD
      refine lv_aload_n hx hb dX9_drift_62 rfl (lv_at hl 0 rfl) ?_
      refine va_get (D := G.1) (ci := 9) (v := .ref h_s) (C := RX9) (T := TX9) (N := 14) hx hb hts in_X9 hown hK.1 hP 1 rfl rfl 0 (by decide) (hts _ q817) (fun _ h9 => h9) rfl dX9_drift_63 ?_
      refine lv_iconst (v := (1 : Int32)) hx hb dX9_drift_66 (by decide) ?_
      refine z_iald hx hb hK.1 hP 2 0 rfl rfl (vin_l (by decide +kernel)) dX9_drift_67 (k := 1) rfl ?_
      refine lv_iconst (v := (1 : Int32)) hx hb dX9_drift_68 (by decide) ?_
      refine lv_icmp_le (tgt := 94) hx hb dX9_drift_69 (by decide) (fun c_6 => ?_) (fun c_6 => ?_)
      · replace hw := hw.1 c_6
        refine lv_aload_n hx hb dX9_drift_94 rfl (lv_at hl 0 rfl) ?_
        have hPc := hP.sub (ws' := [oc h 9 [.ref h_s, .ref h_images, .int kept, .ref h_tape, .int typed, .ref h_draft, .int atv, .ref h_items, .ref h_moved, .ref h_sizes, .ref h_lanes, .ref h_less, .ref h_aside, .ref h_order], ai G h_s 161 f_5, ai G h_less 6 less]) [1, 2, 0] rfl
        have hDc := hD.sub (ws' := [oc h 9 [.ref h_s, .ref h_images, .int kept, .ref h_tape, .int typed, .ref h_draft, .int atv, .ref h_items, .ref h_moved, .ref h_sizes, .ref h_lanes, .ref h_less, .ref h_aside, .ref h_order], ai G h_s 161 f_5, ai G h_less 6 less]) [1, 2, 0] (by decide) rfl
        have hFc := va_free (wc := [oc h 9 [.ref h_s, .ref h_images, .int kept, .ref h_tape, .int typed, .ref h_draft, .int atv, .ref h_items, .ref h_moved, .ref h_sizes, .ref h_lanes, .ref h_less, .ref h_aside, .ref h_order], ai G h_s 161 f_5, ai G h_less 6 less]) hD hS hA [1, 2, 0] rfl
        refine va_callv (va_runV (As := []) (rest := []) ⟨hx, hb, hml, hown, hts⟩ (mt_X9_passes l G h h_s h_images h_tape h_draft h_items h_moved h_sizes h_lanes h_less h_aside h_order H.size kept typed atv f_5 less  _ hw) (cwV 0 hts (lw_V q972 q974 qs43 q65 q975) rfl rfl rfl (by decide +kernel) ⟨Nat.le_of_ble_eq_true rfl, Nat.le_of_ble_eq_true rfl⟩) ⟨fun a U g mk q => by obtain ⟨q0, q1, qP, qK, qD⟩ := q; exact ⟨q0, q1, qP, qK.call, qD⟩, va_recv hK.1 hP (ci := 9) (q0 := 1) rfl rfl, fun U hU hW => ⟨rfl, by rw [hU], by rw [hU]; exact hPc, hK.warm hW, hDc.weaken (fun _ _ _ _ => trivial)⟩⟩ rfl rfl hl.1 rfl (lv_room (Nat.le_of_ble_eq_true rfl)) dX9_drift_95 ⟨Nat.le_of_ble_eq_true rfl, Nat.le_of_ble_eq_true rfl⟩) hS (fun q _ h => hFc q h) hFc (fun u_7 t H1 locs ht hvm hw hB hz1 hk1 hS => ?_)
        obtain ⟨hP1, hD1⟩ := hB
        rw [ht] at hP1
        obtain ⟨hP, hD⟩ := va_join (wr := []) (w1 := [oc h 9 [.ref h_s, .ref h_images, .int kept, .ref h_tape, .int typed, .ref h_draft, .int atv, .ref h_items, .ref h_moved, .ref h_sizes, .ref h_lanes, .ref h_less, .ref h_aside, .ref h_order], ai G h_s 161 u_7.1, ai G h_less 6 u_7.2]) hP hD [1, 2, 0] [] rfl rfl (by decide) (by decide) hk1 hFc hP1 hD1
        clear hPc hDc hFc hP1 hD1 hz1 hk1 hvm
        generalize H1 = H at hP hS ⊢
        have hP : va_P G.1 gCl [oc h 9 [.ref h_s, .ref h_images, .int kept, .ref h_tape, .int typed, .ref h_draft, .int atv, .ref h_items, .ref h_moved, .ref h_sizes, .ref h_lanes, .ref h_less, .ref h_aside, .ref h_order], ai G h_s 161 u_7.1, ai G h_less 6 u_7.2] H := hP
        have hD : va_D A [oc h 9 [.ref h_s, .ref h_images, .int kept, .ref h_tape, .int typed, .ref h_draft, .int atv, .ref h_items, .ref h_moved, .ref h_sizes, .ref h_lanes, .ref h_less, .ref h_aside, .ref h_order], ai G h_s 161 u_7.1, ai G h_less 6 u_7.2] := hD
        refine lv_iinc (v := (x2 + (1 : Int32))) (lv' := [(2, .int (x2 + (1 : Int32))), (0, .ref h), (1, .int p1)]) hx hb dX9_drift_98 hl (k := 2) rfl rfl (by decide) rfl (fun ls hl => ?_)
        refine lv_goto (tgt := 31) hx hb dX9_drift_101 (by decide) ?_
        exact ih u_7.1 u_7.2 (x2 + (1 : Int32)) H locs hP hD hS ls (lv_sub hl [1, 2, 0] rfl) hw
      · replace hw := hw.2 c_6
        refine lv_aload_n hx hb dX9_drift_72 rfl (lv_at hl 0 rfl) ?_
        refine lv_aload_n hx hb dX9_drift_73 rfl (lv_at hl 0 rfl) ?_
        refine va_get (D := G.1) (ci := 9) (v := .ref h_s) (C := RX9) (T := TX9) (N := 14) hx hb hts in_X9 hown hK.1 hP 1 rfl rfl 0 (by decide) (hts _ q817) (fun _ h9 => h9) rfl dX9_drift_74 ?_
        refine lv_iconst (v := (3 : Int32)) hx hb dX9_drift_77 (by decide) ?_
        refine z_iald hx hb hK.1 hP 2 0 rfl rfl (vin_l (by decide +kernel)) dX9_drift_78 (k := 3) rfl ?_
        refine lv_ldc (v := (65536 : Int32)) hx hb hown (hts _ q997) dX9_drift_79 ?_
        refine lv_idiv hx hb dX9_drift_81 (by decide) ?_
        refine lv_aload_n hx hb dX9_drift_82 rfl (lv_at hl 0 rfl) ?_
        refine va_get (D := G.1) (ci := 9) (v := .ref h_s) (C := RX9) (T := TX9) (N := 14) hx hb hts in_X9 hown hK.1 hP 1 rfl rfl 0 (by decide) (hts _ q817) (fun _ h9 => h9) rfl dX9_drift_83 ?_
        refine lv_iconst (v := (1 : Int32)) hx hb dX9_drift_86 (by decide) ?_
        refine z_iald hx hb hK.1 hP 2 0 rfl rfl (vin_l (by decide +kernel)) dX9_drift_87 (k := 1) rfl ?_
        refine lv_iconst (v := (1 : Int32)) hx hb dX9_drift_88 (by decide) ?_
        refine lv_isub hx hb dX9_drift_89 ?_
        obtain ⟨c_8, hw⟩ := hw
        refine lv_irem hx hb dX9_drift_90 c_8 ?_
        have hPc := hP.sub (ws' := [oc h 9 [.ref h_s, .ref h_images, .int kept, .ref h_tape, .int typed, .ref h_draft, .int atv, .ref h_items, .ref h_moved, .ref h_sizes, .ref h_lanes, .ref h_less, .ref h_aside, .ref h_order], ai G h_s 161 f_5]) [1, 2] rfl
        have hDc := hD.sub (ws' := [oc h 9 [.ref h_s, .ref h_images, .int kept, .ref h_tape, .int typed, .ref h_draft, .int atv, .ref h_items, .ref h_moved, .ref h_sizes, .ref h_lanes, .ref h_less, .ref h_aside, .ref h_order], ai G h_s 161 f_5]) [1, 2] (by decide) rfl
        have hFc := va_free (wc := [oc h 9 [.ref h_s, .ref h_images, .int kept, .ref h_tape, .int typed, .ref h_draft, .int atv, .ref h_items, .ref h_moved, .ref h_sizes, .ref h_lanes, .ref h_less, .ref h_aside, .ref h_order], ai G h_s 161 f_5]) hD hS hA [1, 2] rfl
        refine va_callv (va_runV (As := [.int (((f_5 3) / (65536 : Int32)) - ((f_5 3) / (65536 : Int32)) / ((f_5 1) - (1 : Int32)) * ((f_5 1) - (1 : Int32)))]) (rest := []) ⟨hx, hb, hml, hown, hts⟩ (mt_X9_changes l G h h_s h_images h_tape h_draft h_items h_moved h_sizes h_lanes h_less h_aside h_order H.size kept typed atv f_5 (((f_5 3) / (65536 : Int32)) - ((f_5 3) / (65536 : Int32)) / ((f_5 1) - (1 : Int32)) * ((f_5 1) - (1 : Int32))) _ hw) (cwV 1 hts (lw_V q983 q985 qs44 q65 q986) rfl rfl rfl (by decide +kernel) ⟨Nat.le_of_ble_eq_true rfl, Nat.le_of_ble_eq_true rfl⟩) ⟨fun a U g mk q => by obtain ⟨q0, q1, qP, qK, qD⟩ := q; exact ⟨q0, q1, qP, qK.call, qD⟩, va_recv hK.1 hP (ci := 9) (q0 := 1) rfl rfl, fun U hU hW => ⟨rfl, by rw [hU], by rw [hU]; exact hPc, hK.warm hW, hDc.weaken (fun _ _ _ _ => trivial)⟩⟩ rfl rfl hl.1 rfl (lv_room (Nat.le_of_ble_eq_true rfl)) dX9_drift_91 ⟨Nat.le_of_ble_eq_true rfl, Nat.le_of_ble_eq_true rfl⟩) hS (fun q _ h => hFc q h) hFc (fun u_9 t H1 locs ht hvm hw hB hz1 hk1 hS => ?_)
        obtain ⟨hP1, hD1⟩ := hB
        rw [ht] at hP1
        obtain ⟨hP, hD⟩ := va_join (wr := [ai G h_less 6 less]) (w1 := [oc h 9 [.ref h_s, .ref h_images, .int kept, .ref h_tape, .int typed, .ref h_draft, .int atv, .ref h_items, .ref h_moved, .ref h_sizes, .ref h_lanes, .ref h_less, .ref h_aside, .ref h_order], ai G h_s 161 u_9]) hP hD [1, 2] [0] rfl rfl (by decide) (by decide) hk1 hFc hP1 hD1
        clear hPc hDc hFc hP1 hD1 hz1 hk1 hvm
        generalize H1 = H at hP hS ⊢
        have hP : va_P G.1 gCl [ai G h_less 6 less, oc h 9 [.ref h_s, .ref h_images, .int kept, .ref h_tape, .int typed, .ref h_draft, .int atv, .ref h_items, .ref h_moved, .ref h_sizes, .ref h_lanes, .ref h_less, .ref h_aside, .ref h_order], ai G h_s 161 u_9] H := hP
        have hD : va_D A [ai G h_less 6 less, oc h 9 [.ref h_s, .ref h_images, .int kept, .ref h_tape, .int typed, .ref h_draft, .int atv, .ref h_items, .ref h_moved, .ref h_sizes, .ref h_lanes, .ref h_less, .ref h_aside, .ref h_order], ai G h_s 161 u_9] := hD
        refine lv_aload_n hx hb dX9_drift_94 rfl (lv_at hl 0 rfl) ?_
        have hPc := hP.sub (ws' := [oc h 9 [.ref h_s, .ref h_images, .int kept, .ref h_tape, .int typed, .ref h_draft, .int atv, .ref h_items, .ref h_moved, .ref h_sizes, .ref h_lanes, .ref h_less, .ref h_aside, .ref h_order], ai G h_s 161 u_9, ai G h_less 6 less]) [1, 2, 0] rfl
        have hDc := hD.sub (ws' := [oc h 9 [.ref h_s, .ref h_images, .int kept, .ref h_tape, .int typed, .ref h_draft, .int atv, .ref h_items, .ref h_moved, .ref h_sizes, .ref h_lanes, .ref h_less, .ref h_aside, .ref h_order], ai G h_s 161 u_9, ai G h_less 6 less]) [1, 2, 0] (by decide) rfl
        have hFc := va_free (wc := [oc h 9 [.ref h_s, .ref h_images, .int kept, .ref h_tape, .int typed, .ref h_draft, .int atv, .ref h_items, .ref h_moved, .ref h_sizes, .ref h_lanes, .ref h_less, .ref h_aside, .ref h_order], ai G h_s 161 u_9, ai G h_less 6 less]) hD hS hA [1, 2, 0] rfl
        refine va_callv (va_runV (As := []) (rest := []) ⟨hx, hb, hml, hown, hts⟩ (mt_X9_passes l G h h_s h_images h_tape h_draft h_items h_moved h_sizes h_lanes h_less h_aside h_order H.size kept typed atv u_9 less  _ hw) (cwV 0 hts (lw_V q972 q974 qs43 q65 q975) rfl rfl rfl (by decide +kernel) ⟨Nat.le_of_ble_eq_true rfl, Nat.le_of_ble_eq_true rfl⟩) ⟨fun a U g mk q => by obtain ⟨q0, q1, qP, qK, qD⟩ := q; exact ⟨q0, q1, qP, qK.call, qD⟩, va_recv hK.1 hP (ci := 9) (q0 := 1) rfl rfl, fun U hU hW => ⟨rfl, by rw [hU], by rw [hU]; exact hPc, hK.warm hW, hDc.weaken (fun _ _ _ _ => trivial)⟩⟩ rfl rfl hl.1 rfl (lv_room (Nat.le_of_ble_eq_true rfl)) dX9_drift_95 ⟨Nat.le_of_ble_eq_true rfl, Nat.le_of_ble_eq_true rfl⟩) hS (fun q _ h => hFc q h) hFc (fun u_10 t H1 locs ht hvm hw hB hz1 hk1 hS => ?_)
        obtain ⟨hP1, hD1⟩ := hB
        rw [ht] at hP1
        obtain ⟨hP, hD⟩ := va_join (wr := []) (w1 := [oc h 9 [.ref h_s, .ref h_images, .int kept, .ref h_tape, .int typed, .ref h_draft, .int atv, .ref h_items, .ref h_moved, .ref h_sizes, .ref h_lanes, .ref h_less, .ref h_aside, .ref h_order], ai G h_s 161 u_10.1, ai G h_less 6 u_10.2]) hP hD [1, 2, 0] [] rfl rfl (by decide) (by decide) hk1 hFc hP1 hD1
        clear hPc hDc hFc hP1 hD1 hz1 hk1 hvm
        generalize H1 = H at hP hS ⊢
        have hP : va_P G.1 gCl [oc h 9 [.ref h_s, .ref h_images, .int kept, .ref h_tape, .int typed, .ref h_draft, .int atv, .ref h_items, .ref h_moved, .ref h_sizes, .ref h_lanes, .ref h_less, .ref h_aside, .ref h_order], ai G h_s 161 u_10.1, ai G h_less 6 u_10.2] H := hP
        have hD : va_D A [oc h 9 [.ref h_s, .ref h_images, .int kept, .ref h_tape, .int typed, .ref h_draft, .int atv, .ref h_items, .ref h_moved, .ref h_sizes, .ref h_lanes, .ref h_less, .ref h_aside, .ref h_order], ai G h_s 161 u_10.1, ai G h_less 6 u_10.2] := hD
        refine lv_iinc (v := (x2 + (1 : Int32))) (lv' := [(2, .int (x2 + (1 : Int32))), (0, .ref h), (1, .int p1)]) hx hb dX9_drift_98 hl (k := 2) rfl rfl (by decide) rfl (fun ls hl => ?_)
        refine lv_goto (tgt := 31) hx hb dX9_drift_101 (by decide) ?_
        exact ih u_10.1 u_10.2 (x2 + (1 : Int32)) H locs hP hD hS ls (lv_sub hl [1, 2, 0] rfl) hw
def wp_X9_drift (sv : Nat → Int32) (less : Nat → Int32) (p1 : Int32) (Q : Int32 → ((Nat → Int32) × (Nat → Int32)) → Prop) : Prop :=
  wp_X9_in  p1 (1 : Int32) (40 : Int32) (fun r_1 => ((¬ (r_1 = 0) → (((((sv 2) + p1) ≤ (9999 : Int32)) → (∃ j_ : Nat, wp_X9_drift_31 p1 Q  j_ sv less (0 : Int32))) ∧ (¬ (((sv 2) + p1) ≤ (9999 : Int32)) → Q (-3 : Int32) (sv, less)))) ∧ ((r_1 = 0) → Q (-1 : Int32) (sv, less))))
set_option maxHeartbeats 4000000 in
theorem mt_X9_drift (l : Launch) (G : GT) (h h_s h_images h_tape h_draft h_items h_moved h_sizes h_lanes h_less h_aside h_order : Nat) (sz : Nat) (kept : Int32) (typed : Int32) (atv : Int32) (sv : Nat → Int32) (less : Nat → Int32) (p1 : Int32) (Q : Int32 → ((Nat → Int32) × (Nat → Int32)) → Prop) (hw : wp_X9_drift sv less p1 Q) : Met l yX9_drift (ws_ yX9_drift cX9_drift 3 (some .int)) ({ frames := 5, cells := 0, slots := 0, locals := 113 } : Room) (va_Pc [.ref h, .int p1] (fun U => U.heap.size = sz ∧ va_P G.1 gCl [oc h 9 [.ref h_s, .ref h_images, .int kept, .ref h_tape, .int typed, .ref h_draft, .int atv, .ref h_items, .ref h_moved, .ref h_sizes, .ref h_lanes, .ref h_less, .ref h_aside, .ref h_order], ai G h_s 161 sv, ai G h_less 6 less] U.heap ∧ gK G U ∧ va_D (fun _ => True) [oc h 9 [.ref h_s, .ref h_images, .int kept, .ref h_tape, .int typed, .ref h_draft, .int atv, .ref h_items, .ref h_moved, .ref h_sizes, .ref h_lanes, .ref h_less, .ref h_aside, .ref h_order], ai G h_s 161 sv, ai G h_less 6 less])) ((fun A => (va_Qi (fun (r : Int32) (u : (Nat → Int32) × (Nat → Int32)) => Q r u) (fun u t => va_P G.1 gCl [oc h 9 [.ref h_s, .ref h_images, .int kept, .ref h_tape, .int typed, .ref h_draft, .int atv, .ref h_items, .ref h_moved, .ref h_sizes, .ref h_lanes, .ref h_less, .ref h_aside, .ref h_order], ai G h_s 161 u.1, ai G h_less 6 u.2] t.heap ∧ va_D A [oc h 9 [.ref h_s, .ref h_images, .int kept, .ref h_tape, .int typed, .ref h_draft, .int atv, .ref h_items, .ref h_moved, .ref h_sizes, .ref h_lanes, .ref h_less, .ref h_aside, .ref h_order], ai G h_s 161 u.1, ai G h_less 6 u.2]) A)) (va_A [oc h 9 [.ref h_s, .ref h_images, .int kept, .ref h_tape, .int typed, .ref h_draft, .int atv, .ref h_items, .ref h_moved, .ref h_sizes, .ref h_lanes, .ref h_less, .ref h_aside, .ref h_order], ai G h_s 161 sv, ai G h_less 6 less] sz)) 0 0 (va_A [oc h 9 [.ref h_s, .ref h_images, .int kept, .ref h_tape, .int typed, .ref h_draft, .int atv, .ref h_items, .ref h_moved, .ref h_sizes, .ref h_lanes, .ref h_less, .ref h_aside, .ref h_order], ai G h_s 161 sv, ai G h_less 6 less] sz) := by
  refine Met.ofW (cc := cX9_drift) (maxL := 3) (ret := (some .int)) (by decide) rfl ?_
  intro p e s m args below meth c s₁ B hml hv
  obtain ⟨rfl, hsz, hP, hK, hD0⟩ := hv
  have hx := B.exec
  have hb := B.bytes
  have hr := B.returns
  have hts := atoms_spec (ws := (ws_ yX9_drift cX9_drift 3 (some .int))) B.pre
  have hts : ∀ w ∈ lw_all, w.before _ s = true := fun w h => hts w (List.mem_cons_of_mem _ h)
  have hown : s.vm.findClass RX9 = some m.cls := findClass_of_methodNamed B.named
  have hlocks := B.notSynchronized
  subst hsz
  have hD := hD0.self (sz := s.heap.size)
  generalize hAe : va_A [oc h 9 [.ref h_s, .ref h_images, .int kept, .ref h_tape, .int typed, .ref h_draft, .int atv, .ref h_items, .ref h_moved, .ref h_sizes, .ref h_lanes, .ref h_less, .ref h_aside, .ref h_order], ai G h_s 161 sv, ai G h_less 6 less] s.heap.size = A at hD ⊢
  have hA : ∀ q : Nat, s.heap.size ≤ q → A q := fun q h => by rw [← hAe]; exact Or.inr h
  have hS : va_S A s.heap s.heap [] := va_S.rf
  have C : Cx p s m meth c cX9_drift 3 (some .int) RX9 ([.ref h, .int p1] : List Value).toArray G A := ⟨hx, hb, hr, hlocks, hml, hown, hts, hK, hA⟩
  have hl := lv_entry ([.ref h, .int p1]) (n := 3) (Nat.le_of_ble_eq_true rfl)
  rw [lg_entry_eq]
  generalize (lg_sl ([.ref h, .int p1]) ++ List.replicate (3 - (lg_sl ([.ref h, .int p1])).length) Slot.unset).toArray = ls at hl ⊢
  have hl : lv_has ls 3 [(0, .ref h), (1, .int p1)] := hl
  unfold wp_X9_drift at hw
  refine lv_iload_n hx hb dX9_drift_0 rfl (lv_at hl 1 rfl) ?_
  refine lv_iconst (v := (1 : Int32)) hx hb dX9_drift_1 (by decide) ?_
  refine lv_bipush (v := (40 : Int32)) hx hb dX9_drift_2 (by decide) ?_
  have hPc := hP.sub (ws' := []) [] rfl
  have hDc := hD.sub (ws' := []) [] (by decide) rfl
  have hFc := va_free (wc := []) hD hS hA [] rfl
  refine va_calli (va_runS (As := [.int p1, .int (1 : Int32), .int (40 : Int32)]) (rest := []) ⟨hx, hb, hml, hown, hts⟩ (mt_X9_in l G  s.heap.size  p1 (1 : Int32) (40 : Int32) _ hw) (va_cwS 3 hts (lw_S q864 q865 q65 q866) rfl rfl rfl (by decide +kernel) ⟨Nat.le_of_ble_eq_true rfl, Nat.le_of_ble_eq_true rfl⟩) ⟨fun a U g mk q => by obtain ⟨q0, q1, qP, qK, qD⟩ := q; exact ⟨q0, q1, qP, qK.call, qD⟩, fun U hU hW => ⟨rfl, by rw [hU], by rw [hU]; exact hPc, hK.warm hW, hDc.weaken (fun _ _ _ _ => trivial)⟩⟩ rfl rfl hl.1 rfl (lv_room (Nat.le_of_ble_eq_true rfl)) dX9_drift_4 ⟨Nat.le_of_ble_eq_true rfl, Nat.le_of_ble_eq_true rfl⟩) hS (fun q _ h => hFc q h) hFc (fun r_1 _ t H1 locs ht hvm hw hB hz1 hk1 hS => ?_)
  obtain ⟨hP1, hD1⟩ := hB
  rw [ht] at hP1
  obtain ⟨hP, hD⟩ := va_join (wr := [oc h 9 [.ref h_s, .ref h_images, .int kept, .ref h_tape, .int typed, .ref h_draft, .int atv, .ref h_items, .ref h_moved, .ref h_sizes, .ref h_lanes, .ref h_less, .ref h_aside, .ref h_order], ai G h_s 161 sv, ai G h_less 6 less]) (w1 := []) hP hD [] [0, 1, 2] rfl rfl (by decide) (by decide) hk1 hFc hP1 hD1
  clear hPc hDc hFc hP1 hD1 hz1 hk1 hvm
  generalize H1 = H at hP hS ⊢
  have hP : va_P G.1 gCl [oc h 9 [.ref h_s, .ref h_images, .int kept, .ref h_tape, .int typed, .ref h_draft, .int atv, .ref h_items, .ref h_moved, .ref h_sizes, .ref h_lanes, .ref h_less, .ref h_aside, .ref h_order], ai G h_s 161 sv, ai G h_less 6 less] H := hP
  have hD : va_D A [oc h 9 [.ref h_s, .ref h_images, .int kept, .ref h_tape, .int typed, .ref h_draft, .int atv, .ref h_items, .ref h_moved, .ref h_sizes, .ref h_lanes, .ref h_less, .ref h_aside, .ref h_order], ai G h_s 161 sv, ai G h_less 6 less] := hD
  refine lv_if_ne (tgt := 12) hx hb dX9_drift_7 (by decide) (fun c_2 => ?_) (fun c_2 => ?_)
  · replace hw := hw.1 c_2
    refine lv_aload_n hx hb dX9_drift_12 rfl (lv_at hl 0 rfl) ?_
    refine va_get (D := G.1) (ci := 9) (v := .ref h_s) (C := RX9) (T := TX9) (N := 14) hx hb hts in_X9 hown hK.1 hP 0 rfl rfl 0 (by decide) (hts _ q817) (fun _ h9 => h9) rfl dX9_drift_13 ?_
    refine lv_iconst (v := (2 : Int32)) hx hb dX9_drift_16 (by decide) ?_
    refine z_iald hx hb hK.1 hP 1 0 rfl rfl (vin_l (by decide +kernel)) dX9_drift_17 (k := 2) rfl ?_
    refine lv_iload_n hx hb dX9_drift_18 rfl (lv_at hl 1 rfl) ?_
    refine lv_iadd hx hb dX9_drift_19 ?_
    refine lv_sipush (v := (9999 : Int32)) hx hb dX9_drift_20 (by decide) ?_
    refine lv_icmp_le (tgt := 29) hx hb dX9_drift_23 (by decide) (fun c_3 => ?_) (fun c_3 => ?_)
    · replace hw := hw.1 c_3
      refine lv_iconst (v := (0 : Int32)) hx hb dX9_drift_29 (by decide) ?_
      refine lv_istore_n (lv' := [(2, .int (0 : Int32)), (0, .ref h), (1, .int p1)]) hx hb dX9_drift_30 rfl hl (by decide) rfl (fun ls hl => ?_)
      obtain ⟨j_, hw⟩ := hw
      exact wk_X9_drift_31 h h_s h_images h_tape h_draft h_items h_moved h_sizes h_lanes h_less h_aside h_order kept typed atv p1  Q  C  j_ sv less (0 : Int32) H locs hP hD hS ls (lv_sub hl [1, 2, 0] rfl) hw
    · replace hw := hw.2 c_3
      refine lv_bipush (v := (-3 : Int32)) hx hb dX9_drift_26 (by decide) ?_
      have hP9 := hP
      have hD9 := hD
      exact W.iret (v := (-3 : Int32)) hx hb hr (fun t ht hW => ⟨⟨(-3 : Int32), (sv, less), rfl, hw, by rw [ht]; exact hP9, hD9⟩, hS.F ht⟩) hS.2.2 dX9_drift_28
  · replace hw := hw.2 c_2
    refine lv_iconst (v := (-1 : Int32)) hx hb dX9_drift_10 (by decide) ?_
    have hP9 := hP
    have hD9 := hD
    exact W.iret (v := (-1 : Int32)) hx hb hr (fun t ht hW => ⟨⟨(-1 : Int32), (sv, less), rfl, hw, by rw [ht]; exact hP9, hD9⟩, hS.F ht⟩) hS.2.2 dX9_drift_11
/-! BattleBenchModel.undo()I -/
def wp_X9_undo_26  (Q : Int32 → ((Nat → Int32)) → Prop)  : Nat → (Nat → Int32) → Int32 → Prop
  | 0, _, _ => False
  | n + 1, sv, x1 =>
    ((((15 : Int32) ≤ x1) → Q (sv 40) sv) ∧ (¬ ((15 : Int32) ≤ x1) → (vp_in (((41 : Int32) + ((15 : Int32) * (sv 40))) + x1) 161 ∧ (∀ v_3 : Int32, v_3 = (sv ((((41 : Int32) + ((15 : Int32) * (sv 40))) + x1)).toNatClampNeg) → (vp_in ((1 : Int32) + x1) 161 ∧ ∀ f_5 : Nat → Int32, f_5 = upd sv (((1 : Int32) + x1)).toNatClampNeg v_3 → wp_X9_undo_26  Q  n f_5 (x1 + (1 : Int32)))))))
set_option maxHeartbeats 4000000 in
theorem wk_X9_undo_26 {p : Program} {l : Launch} {e : Env} {s : State} {m : MethodId} {below : List Frame} {meth : Method} {c : Code} {args : Array Value} {G : GT} {A : Nat → Prop} (h h_s h_images h_tape h_draft h_items h_moved h_sizes h_lanes h_less h_aside h_order : Nat) (kept : Int32) (typed : Int32) (atv : Int32) (Q : Int32 → ((Nat → Int32)) → Prop)  (C : Cx p s m meth c cX9_undo 2 (some .int) RX9 args G A)  :
    ∀ (n : Nat), ∀  (sv : Nat → Int32) (x1 : Int32) (H : Heap) (locs : List Loc), va_P G.1 gCl [oc h 9 [.ref h_s, .ref h_images, .int kept, .ref h_tape, .int typed, .ref h_draft, .int atv, .ref h_items, .ref h_moved, .ref h_sizes, .ref h_lanes, .ref h_less, .ref h_aside, .ref h_order], ai G h_s 161 sv] H → va_D A [oc h 9 [.ref h_s, .ref h_images, .int kept, .ref h_tape, .int typed, .ref h_draft, .int atv, .ref h_items, .ref h_moved, .ref h_sizes, .ref h_lanes, .ref h_less, .ref h_aside, .ref h_order], ai G h_s 161 sv] → va_S A s.heap H locs → ∀ (ls : Array Slot), lv_has ls 2 [(0, .ref h), (1, .int x1)] → wp_X9_undo_26  Q  n sv x1 → W p l e ({ frames := 0, cells := 0, slots := 0, locals := 0 } : Room) s m args below meth c H locs 0 0 (MQ below (va_Qi (fun (r : Int32) (u : (Nat → Int32)) => Q r u) (fun u t => va_P G.1 gCl [oc h 9 [.ref h_s, .ref h_images, .int kept, .ref h_tape, .int typed, .ref h_draft, .int atv, .ref h_items, .ref h_moved, .ref h_sizes, .ref h_lanes, .ref h_less, .ref h_aside, .ref h_order], ai G h_s 161 u] t.heap ∧ va_D A [oc h 9 [.ref h_s, .ref h_images, .int kept, .ref h_tape, .int typed, .ref h_draft, .int atv, .ref h_items, .ref h_moved, .ref h_sizes, .ref h_lanes, .ref h_less, .ref h_aside, .ref h_order], ai G h_s 161 u]) A) args s 0 0 A) (F0 m 26 ls []) := by
  have C9 := C
  obtain ⟨hx, hb, hr, hlocks, hml, hown, hts, hK, hA⟩ := C9
  intro n
  induction n with
  | zero => intro sv x1 H locs hP hD hS ls hl hw; exact False.elim hw
  | succ n ih =>
    intro sv x1 H locs hP hD hS ls hl hw
    unfold wp_X9_undo_26 at hw
    refine lv_iload_n hx hb dX9_undo_26 rfl (lv_at hl 1 rfl) ?_
    refine lv_bipush (v := (15 : Int32)) hx hb dX9_undo_27 (by decide) ?_
    refine lv_icmp_ge (tgt := 66) hx hb dX9_undo_29 (by decide) (fun c_1 => ?_) (fun c_1 => ?_)
    · replace hw := hw.1 c_1
      refine lv_aload_n hx hb dX9_undo_66 rfl (lv_at hl 0 rfl) ?_
      refine va_get (D := G.1) (ci := 9) (v := .ref h_s) (C := RX9) (T := TX9) (N := 14) hx hb hts in_X9 hown hK.1 hP 0 rfl rfl 0 (by decide) (hts _ q817) (fun _ h9 => h9) rfl dX9_undo_67 ?_
      refine lv_bipush (v := (40 : Int32)) hx hb dX9_undo_70 (by decide) ?_
      refine z_iald hx hb hK.1 hP 1 0 rfl rfl (vin_l (by decide +kernel)) dX9_undo_72 (k := 40) rfl ?_
      have hP9 := hP
      have hD9 := hD
      exact W.iret (v := (sv 40)) hx hb hr (fun t ht hW => ⟨⟨(sv 40), sv, rfl, hw, by rw [ht]; exact hP9, hD9⟩, hS.F ht⟩) hS.2.2 dX9_undo_73
    · replace hw := hw.2 c_1
      refine lv_aload_n hx hb dX9_undo_32 rfl (lv_at hl 0 rfl) ?_
      refine va_get (D := G.1) (ci := 9) (v := .ref h_s) (C := RX9) (T := TX9) (N := 14) hx hb hts in_X9 hown hK.1 hP 0 rfl rfl 0 (by decide) (hts _ q817) (fun _ h9 => h9) rfl dX9_undo_33 ?_
      refine lv_iconst (v := (1 : Int32)) hx hb dX9_undo_36 (by decide) ?_
      refine lv_iload_n hx hb dX9_undo_37 rfl (lv_at hl 1 rfl) ?_
      refine lv_iadd hx hb dX9_undo_38 ?_
      refine lv_aload_n hx hb dX9_undo_39 rfl (lv_at hl 0 rfl) ?_
      refine va_get (D := G.1) (ci := 9) (v := .ref h_s) (C := RX9) (T := TX9) (N := 14) hx hb hts in_X9 hown hK.1 hP 0 rfl rfl 0 (by decide) (hts _ q817) (fun _ h9 => h9) rfl dX9_undo_40 ?_
      refine lv_bipush (v := (41 : Int32)) hx hb dX9_undo_43 (by decide) ?_
      refine lv_bipush (v := (15 : Int32)) hx hb dX9_undo_45 (by decide) ?_
      refine lv_aload_n hx hb dX9_undo_47 rfl (lv_at hl 0 rfl) ?_
      refine va_get (D := G.1) (ci := 9) (v := .ref h_s) (C := RX9) (T := TX9) (N := 14) hx hb hts in_X9 hown hK.1 hP 0 rfl rfl 0 (by decide) (hts _ q817) (fun _ h9 => h9) rfl dX9_undo_48 ?_
      refine lv_bipush (v := (40 : Int32)) hx hb dX9_undo_51 (by decide) ?_
      refine z_iald hx hb hK.1 hP 1 0 rfl rfl (vin_l (by decide +kernel)) dX9_undo_53 (k := 40) rfl ?_
      refine lv_imul hx hb dX9_undo_54 ?_
      refine lv_iadd hx hb dX9_undo_55 ?_
      refine lv_iload_n hx hb dX9_undo_56 rfl (lv_at hl 1 rfl) ?_
      refine lv_iadd hx hb dX9_undo_57 ?_
      obtain ⟨i_2, hw⟩ := hw
      refine z_iald hx hb hK.1 hP 1 0 rfl rfl i_2 dX9_undo_58 (k := ((((41 : Int32) + ((15 : Int32) * (sv 40))) + x1)).toNatClampNeg) rfl ?_
      refine lv_topi (fun v_3 ev_3 => ?_)
      replace hw := hw v_3 ev_3
      obtain ⟨i_4, hw⟩ := hw
      refine z_iast hx hb hK.1 hP hD hS 1 0 rfl rfl i_4 dX9_undo_59 (k := (((1 : Int32) + x1)).toNatClampNeg) rfl (fun f_5 ef_5 H locs hP hD hS => ?_)
      replace hw := hw f_5 ef_5
      have hP : va_P G.1 gCl [oc h 9 [.ref h_s, .ref h_images, .int kept, .ref h_tape, .int typed, .ref h_draft, .int atv, .ref h_items, .ref h_moved, .ref h_sizes, .ref h_lanes, .ref h_less, .ref h_aside, .ref h_order], ai G h_s 161 f_5] H := hP
      have hD : va_D A [oc h 9 [.ref h_s, .ref h_images, .int kept, .ref h_tape, .int typed, .ref h_draft, .int atv, .ref h_items, .ref h_moved, .ref h_sizes, .ref h_lanes, .ref h_less, .ref h_aside, .ref h_order], ai G h_s 161 f_5] := hD
      refine lv_iinc (v := (x1 + (1 : Int32))) (lv' := [(1, .int (x1 + (1 : Int32))), (0, .ref h)]) hx hb dX9_undo_60 hl (k := 1) rfl rfl (by decide) rfl (fun ls hl => ?_)
      refine lv_goto (tgt := 26) hx hb dX9_undo_63 (by decide) ?_
      exact ih f_5 (x1 + (1 : Int32)) H locs hP hD hS ls (lv_sub hl [1, 0] rfl) hw
def wp_X9_undo (sv : Nat → Int32) (Q : Int32 → ((Nat → Int32)) → Prop) : Prop :=
  ((¬ ((sv 40) = 0) → (∀ v_2 : Int32, v_2 = ((sv 40) - (1 : Int32)) → (∀ f_3 : Nat → Int32, f_3 = upd sv 40 v_2 → (∃ j_ : Nat, wp_X9_undo_26  Q  j_ f_3 (0 : Int32))))) ∧ (((sv 40) = 0) → Q (-4 : Int32) sv))
set_option maxHeartbeats 4000000 in
theorem mt_X9_undo (l : Launch) (G : GT) (h h_s h_images h_tape h_draft h_items h_moved h_sizes h_lanes h_less h_aside h_order : Nat) (sz : Nat) (kept : Int32) (typed : Int32) (atv : Int32) (sv : Nat → Int32) (Q : Int32 → ((Nat → Int32)) → Prop) (hw : wp_X9_undo sv Q) : Met l yX9_undo (ws_ yX9_undo cX9_undo 2 (some .int)) ({ frames := 0, cells := 0, slots := 0, locals := 0 } : Room) (va_Pc [.ref h] (fun U => U.heap.size = sz ∧ va_P G.1 gCl [oc h 9 [.ref h_s, .ref h_images, .int kept, .ref h_tape, .int typed, .ref h_draft, .int atv, .ref h_items, .ref h_moved, .ref h_sizes, .ref h_lanes, .ref h_less, .ref h_aside, .ref h_order], ai G h_s 161 sv] U.heap ∧ gK G U ∧ va_D (fun _ => True) [oc h 9 [.ref h_s, .ref h_images, .int kept, .ref h_tape, .int typed, .ref h_draft, .int atv, .ref h_items, .ref h_moved, .ref h_sizes, .ref h_lanes, .ref h_less, .ref h_aside, .ref h_order], ai G h_s 161 sv])) ((fun A => (va_Qi (fun (r : Int32) (u : (Nat → Int32)) => Q r u) (fun u t => va_P G.1 gCl [oc h 9 [.ref h_s, .ref h_images, .int kept, .ref h_tape, .int typed, .ref h_draft, .int atv, .ref h_items, .ref h_moved, .ref h_sizes, .ref h_lanes, .ref h_less, .ref h_aside, .ref h_order], ai G h_s 161 u] t.heap ∧ va_D A [oc h 9 [.ref h_s, .ref h_images, .int kept, .ref h_tape, .int typed, .ref h_draft, .int atv, .ref h_items, .ref h_moved, .ref h_sizes, .ref h_lanes, .ref h_less, .ref h_aside, .ref h_order], ai G h_s 161 u]) A)) (va_A [oc h 9 [.ref h_s, .ref h_images, .int kept, .ref h_tape, .int typed, .ref h_draft, .int atv, .ref h_items, .ref h_moved, .ref h_sizes, .ref h_lanes, .ref h_less, .ref h_aside, .ref h_order], ai G h_s 161 sv] sz)) 0 0 (va_A [oc h 9 [.ref h_s, .ref h_images, .int kept, .ref h_tape, .int typed, .ref h_draft, .int atv, .ref h_items, .ref h_moved, .ref h_sizes, .ref h_lanes, .ref h_less, .ref h_aside, .ref h_order], ai G h_s 161 sv] sz) := by
  refine Met.ofW (cc := cX9_undo) (maxL := 2) (ret := (some .int)) (by decide) rfl ?_
  intro p e s m args below meth c s₁ B hml hv
  obtain ⟨rfl, hsz, hP, hK, hD0⟩ := hv
  have hx := B.exec
  have hb := B.bytes
  have hr := B.returns
  have hts := atoms_spec (ws := (ws_ yX9_undo cX9_undo 2 (some .int))) B.pre
  have hts : ∀ w ∈ lw_all, w.before _ s = true := fun w h => hts w (List.mem_cons_of_mem _ h)
  have hown : s.vm.findClass RX9 = some m.cls := findClass_of_methodNamed B.named
  have hlocks := B.notSynchronized
  subst hsz
  have hD := hD0.self (sz := s.heap.size)
  generalize hAe : va_A [oc h 9 [.ref h_s, .ref h_images, .int kept, .ref h_tape, .int typed, .ref h_draft, .int atv, .ref h_items, .ref h_moved, .ref h_sizes, .ref h_lanes, .ref h_less, .ref h_aside, .ref h_order], ai G h_s 161 sv] s.heap.size = A at hD ⊢
  have hA : ∀ q : Nat, s.heap.size ≤ q → A q := fun q h => by rw [← hAe]; exact Or.inr h
  have hS : va_S A s.heap s.heap [] := va_S.rf
  have C : Cx p s m meth c cX9_undo 2 (some .int) RX9 ([.ref h] : List Value).toArray G A := ⟨hx, hb, hr, hlocks, hml, hown, hts, hK, hA⟩
  have hl := lv_entry ([.ref h]) (n := 2) (Nat.le_of_ble_eq_true rfl)
  rw [lg_entry_eq]
  generalize (lg_sl ([.ref h]) ++ List.replicate (2 - (lg_sl ([.ref h])).length) Slot.unset).toArray = ls at hl ⊢
  have hl : lv_has ls 2 [(0, .ref h)] := hl
  unfold wp_X9_undo at hw
  refine lv_aload_n hx hb dX9_undo_0 rfl (lv_at hl 0 rfl) ?_
  refine va_get (D := G.1) (ci := 9) (v := .ref h_s) (C := RX9) (T := TX9) (N := 14) hx hb hts in_X9 hown hK.1 hP 0 rfl rfl 0 (by decide) (hts _ q817) (fun _ h9 => h9) rfl dX9_undo_1 ?_
  refine lv_bipush (v := (40 : Int32)) hx hb dX9_undo_4 (by decide) ?_
  refine z_iald hx hb hK.1 hP 1 0 rfl rfl (vin_l (by decide +kernel)) dX9_undo_6 (k := 40) rfl ?_
  refine lv_if_ne (tgt := 13) hx hb dX9_undo_7 (by decide) (fun c_1 => ?_) (fun c_1 => ?_)
  · replace hw := hw.1 c_1
    refine lv_aload_n hx hb dX9_undo_13 rfl (lv_at hl 0 rfl) ?_
    refine va_get (D := G.1) (ci := 9) (v := .ref h_s) (C := RX9) (T := TX9) (N := 14) hx hb hts in_X9 hown hK.1 hP 0 rfl rfl 0 (by decide) (hts _ q817) (fun _ h9 => h9) rfl dX9_undo_14 ?_
    refine lv_bipush (v := (40 : Int32)) hx hb dX9_undo_17 (by decide) ?_
    refine lv_dup2_11 hx hb dX9_undo_19 rfl rfl ?_
    refine z_iald hx hb hK.1 hP 1 0 rfl rfl (vin_l (by decide +kernel)) dX9_undo_20 (k := 40) rfl ?_
    refine lv_iconst (v := (1 : Int32)) hx hb dX9_undo_21 (by decide) ?_
    refine lv_isub hx hb dX9_undo_22 ?_
    refine lv_topi (fun v_2 ev_2 => ?_)
    replace hw := hw v_2 ev_2
    refine z_iast hx hb hK.1 hP hD hS 1 0 rfl rfl (vin_l (by decide +kernel)) dX9_undo_23 (k := 40) rfl (fun f_3 ef_3 H locs hP hD hS => ?_)
    replace hw := hw f_3 ef_3
    have hP : va_P G.1 gCl [oc h 9 [.ref h_s, .ref h_images, .int kept, .ref h_tape, .int typed, .ref h_draft, .int atv, .ref h_items, .ref h_moved, .ref h_sizes, .ref h_lanes, .ref h_less, .ref h_aside, .ref h_order], ai G h_s 161 f_3] H := hP
    have hD : va_D A [oc h 9 [.ref h_s, .ref h_images, .int kept, .ref h_tape, .int typed, .ref h_draft, .int atv, .ref h_items, .ref h_moved, .ref h_sizes, .ref h_lanes, .ref h_less, .ref h_aside, .ref h_order], ai G h_s 161 f_3] := hD
    refine lv_iconst (v := (0 : Int32)) hx hb dX9_undo_24 (by decide) ?_
    refine lv_istore_n (lv' := [(1, .int (0 : Int32)), (0, .ref h)]) hx hb dX9_undo_25 rfl hl (by decide) rfl (fun ls hl => ?_)
    obtain ⟨j_, hw⟩ := hw
    exact wk_X9_undo_26 h h_s h_images h_tape h_draft h_items h_moved h_sizes h_lanes h_less h_aside h_order kept typed atv  Q  C  j_ f_3 (0 : Int32) H locs hP hD hS ls (lv_sub hl [1, 0] rfl) hw
  · replace hw := hw.2 c_1
    refine lv_bipush (v := (-4 : Int32)) hx hb dX9_undo_10 (by decide) ?_
    have hP9 := hP
    have hD9 := hD
    exact W.iret (v := (-4 : Int32)) hx hb hr (fun t ht hW => ⟨⟨(-4 : Int32), sv, rfl, hw, by rw [ht]; exact hP9, hD9⟩, hS.F ht⟩) hS.2.2 dX9_undo_12
/-! BattleBenchModel.seed(I)I -/
def wp_X9_seed (sv : Nat → Int32) (p1 : Int32) (Q : Int32 → ((Nat → Int32)) → Prop) : Prop :=
  (((0 ≤ p1) → (∀ v_2 : Int32, v_2 = (sv 3) → (∀ f_3 : Nat → Int32, f_3 = upd sv 3 p1 → Q v_2 f_3))) ∧ (¬ (0 ≤ p1) → Q (-1 : Int32) sv))
set_option maxHeartbeats 4000000 in
theorem mt_X9_seed (l : Launch) (G : GT) (h h_s h_images h_tape h_draft h_items h_moved h_sizes h_lanes h_less h_aside h_order : Nat) (sz : Nat) (kept : Int32) (typed : Int32) (atv : Int32) (sv : Nat → Int32) (p1 : Int32) (Q : Int32 → ((Nat → Int32)) → Prop) (hw : wp_X9_seed sv p1 Q) : Met l yX9_seed (ws_ yX9_seed cX9_seed 3 (some .int)) ({ frames := 0, cells := 0, slots := 0, locals := 0 } : Room) (va_Pc [.ref h, .int p1] (fun U => U.heap.size = sz ∧ va_P G.1 gCl [oc h 9 [.ref h_s, .ref h_images, .int kept, .ref h_tape, .int typed, .ref h_draft, .int atv, .ref h_items, .ref h_moved, .ref h_sizes, .ref h_lanes, .ref h_less, .ref h_aside, .ref h_order], ai G h_s 161 sv] U.heap ∧ gK G U ∧ va_D (fun _ => True) [oc h 9 [.ref h_s, .ref h_images, .int kept, .ref h_tape, .int typed, .ref h_draft, .int atv, .ref h_items, .ref h_moved, .ref h_sizes, .ref h_lanes, .ref h_less, .ref h_aside, .ref h_order], ai G h_s 161 sv])) ((fun A => (va_Qi (fun (r : Int32) (u : (Nat → Int32)) => Q r u) (fun u t => va_P G.1 gCl [oc h 9 [.ref h_s, .ref h_images, .int kept, .ref h_tape, .int typed, .ref h_draft, .int atv, .ref h_items, .ref h_moved, .ref h_sizes, .ref h_lanes, .ref h_less, .ref h_aside, .ref h_order], ai G h_s 161 u] t.heap ∧ va_D A [oc h 9 [.ref h_s, .ref h_images, .int kept, .ref h_tape, .int typed, .ref h_draft, .int atv, .ref h_items, .ref h_moved, .ref h_sizes, .ref h_lanes, .ref h_less, .ref h_aside, .ref h_order], ai G h_s 161 u]) A)) (va_A [oc h 9 [.ref h_s, .ref h_images, .int kept, .ref h_tape, .int typed, .ref h_draft, .int atv, .ref h_items, .ref h_moved, .ref h_sizes, .ref h_lanes, .ref h_less, .ref h_aside, .ref h_order], ai G h_s 161 sv] sz)) 0 0 (va_A [oc h 9 [.ref h_s, .ref h_images, .int kept, .ref h_tape, .int typed, .ref h_draft, .int atv, .ref h_items, .ref h_moved, .ref h_sizes, .ref h_lanes, .ref h_less, .ref h_aside, .ref h_order], ai G h_s 161 sv] sz) := by
  refine Met.ofW (cc := cX9_seed) (maxL := 3) (ret := (some .int)) (by decide) rfl ?_
  intro p e s m args below meth c s₁ B hml hv
  obtain ⟨rfl, hsz, hP, hK, hD0⟩ := hv
  have hx := B.exec
  have hb := B.bytes
  have hr := B.returns
  have hts := atoms_spec (ws := (ws_ yX9_seed cX9_seed 3 (some .int))) B.pre
  have hts : ∀ w ∈ lw_all, w.before _ s = true := fun w h => hts w (List.mem_cons_of_mem _ h)
  have hown : s.vm.findClass RX9 = some m.cls := findClass_of_methodNamed B.named
  have hlocks := B.notSynchronized
  subst hsz
  have hD := hD0.self (sz := s.heap.size)
  generalize hAe : va_A [oc h 9 [.ref h_s, .ref h_images, .int kept, .ref h_tape, .int typed, .ref h_draft, .int atv, .ref h_items, .ref h_moved, .ref h_sizes, .ref h_lanes, .ref h_less, .ref h_aside, .ref h_order], ai G h_s 161 sv] s.heap.size = A at hD ⊢
  have hA : ∀ q : Nat, s.heap.size ≤ q → A q := fun q h => by rw [← hAe]; exact Or.inr h
  have hS : va_S A s.heap s.heap [] := va_S.rf
  have C : Cx p s m meth c cX9_seed 3 (some .int) RX9 ([.ref h, .int p1] : List Value).toArray G A := ⟨hx, hb, hr, hlocks, hml, hown, hts, hK, hA⟩
  have hl := lv_entry ([.ref h, .int p1]) (n := 3) (Nat.le_of_ble_eq_true rfl)
  rw [lg_entry_eq]
  generalize (lg_sl ([.ref h, .int p1]) ++ List.replicate (3 - (lg_sl ([.ref h, .int p1])).length) Slot.unset).toArray = ls at hl ⊢
  have hl : lv_has ls 3 [(0, .ref h), (1, .int p1)] := hl
  unfold wp_X9_seed at hw
  refine lv_iload_n hx hb dX9_seed_0 rfl (lv_at hl 1 rfl) ?_
  refine lv_if_ge (tgt := 6) hx hb dX9_seed_1 (by decide) (fun c_1 => ?_) (fun c_1 => ?_)
  · replace hw := hw.1 c_1
    refine lv_aload_n hx hb dX9_seed_6 rfl (lv_at hl 0 rfl) ?_
    refine va_get (D := G.1) (ci := 9) (v := .ref h_s) (C := RX9) (T := TX9) (N := 14) hx hb hts in_X9 hown hK.1 hP 0 rfl rfl 0 (by decide) (hts _ q817) (fun _ h9 => h9) rfl dX9_seed_7 ?_
    refine lv_iconst (v := (3 : Int32)) hx hb dX9_seed_10 (by decide) ?_
    refine z_iald hx hb hK.1 hP 1 0 rfl rfl (vin_l (by decide +kernel)) dX9_seed_11 (k := 3) rfl ?_
    refine lv_topi (fun v_2 ev_2 => ?_)
    replace hw := hw v_2 ev_2
    refine lv_istore_n (lv' := [(2, .int v_2), (0, .ref h), (1, .int p1)]) hx hb dX9_seed_12 rfl hl (by decide) rfl (fun ls hl => ?_)
    refine lv_aload_n hx hb dX9_seed_13 rfl (lv_at hl 1 rfl) ?_
    refine va_get (D := G.1) (ci := 9) (v := .ref h_s) (C := RX9) (T := TX9) (N := 14) hx hb hts in_X9 hown hK.1 hP 0 rfl rfl 0 (by decide) (hts _ q817) (fun _ h9 => h9) rfl dX9_seed_14 ?_
    refine lv_iconst (v := (3 : Int32)) hx hb dX9_seed_17 (by decide) ?_
    refine lv_iload_n hx hb dX9_seed_18 rfl (lv_at hl 2 rfl) ?_
    refine z_iast hx hb hK.1 hP hD hS 1 0 rfl rfl (vin_l (by decide +kernel)) dX9_seed_19 (k := 3) rfl (fun f_3 ef_3 H locs hP hD hS => ?_)
    replace hw := hw f_3 ef_3
    have hP : va_P G.1 gCl [oc h 9 [.ref h_s, .ref h_images, .int kept, .ref h_tape, .int typed, .ref h_draft, .int atv, .ref h_items, .ref h_moved, .ref h_sizes, .ref h_lanes, .ref h_less, .ref h_aside, .ref h_order], ai G h_s 161 f_3] H := hP
    have hD : va_D A [oc h 9 [.ref h_s, .ref h_images, .int kept, .ref h_tape, .int typed, .ref h_draft, .int atv, .ref h_items, .ref h_moved, .ref h_sizes, .ref h_lanes, .ref h_less, .ref h_aside, .ref h_order], ai G h_s 161 f_3] := hD
    refine lv_iload_n hx hb dX9_seed_20 rfl (lv_at hl 0 rfl) ?_
    have hP9 := hP
    have hD9 := hD
    exact W.iret (v := v_2) hx hb hr (fun t ht hW => ⟨⟨v_2, f_3, rfl, hw, by rw [ht]; exact hP9, hD9⟩, hS.F ht⟩) hS.2.2 dX9_seed_21
  · replace hw := hw.2 c_1
    refine lv_iconst (v := (-1 : Int32)) hx hb dX9_seed_4 (by decide) ?_
    have hP9 := hP
    have hD9 := hD
    exact W.iret (v := (-1 : Int32)) hx hb hr (fun t ht hW => ⟨⟨(-1 : Int32), sv, rfl, hw, by rw [ht]; exact hP9, hD9⟩, hS.F ht⟩) hS.2.2 dX9_seed_5
/-! BattleBenchModel.holds()V -/
def wp_X9_holds_2 (sv : Nat → Int32) (Q : ((Nat → Int32)) → Prop)  : Nat → (Nat → Int32) → Int32 → Prop
  | 0, _, _ => False
  | n + 1, aside, x1 =>
    ((((40 : Int32) ≤ x1) → Q aside) ∧ (¬ ((40 : Int32) ≤ x1) → (vp_in x1 161 ∧ (∀ v_3 : Int32, v_3 = (sv x1.toNatClampNeg) → (vp_in x1 40 ∧ ∀ f_5 : Nat → Int32, f_5 = upd aside x1.toNatClampNeg v_3 → wp_X9_holds_2 sv Q  n f_5 (x1 + (1 : Int32)))))))
set_option maxHeartbeats 4000000 in
theorem wk_X9_holds_2 {p : Program} {l : Launch} {e : Env} {s : State} {m : MethodId} {below : List Frame} {meth : Method} {c : Code} {args : Array Value} {G : GT} {A : Nat → Prop} (h h_s h_images h_tape h_draft h_items h_moved h_sizes h_lanes h_less h_aside h_order : Nat) (kept : Int32) (typed : Int32) (atv : Int32) (sv : Nat → Int32) (Q : ((Nat → Int32)) → Prop)  (C : Cx p s m meth c cX9_holds 2 none RX9 args G A)  :
    ∀ (n : Nat), ∀  (aside : Nat → Int32) (x1 : Int32) (H : Heap) (locs : List Loc), va_P G.1 gCl [oc h 9 [.ref h_s, .ref h_images, .int kept, .ref h_tape, .int typed, .ref h_draft, .int atv, .ref h_items, .ref h_moved, .ref h_sizes, .ref h_lanes, .ref h_less, .ref h_aside, .ref h_order], ai G h_s 161 sv, ai G h_aside 40 aside] H → va_D A [oc h 9 [.ref h_s, .ref h_images, .int kept, .ref h_tape, .int typed, .ref h_draft, .int atv, .ref h_items, .ref h_moved, .ref h_sizes, .ref h_lanes, .ref h_less, .ref h_aside, .ref h_order], ai G h_s 161 sv, ai G h_aside 40 aside] → va_S A s.heap H locs → ∀ (ls : Array Slot), lv_has ls 2 [(0, .ref h), (1, .int x1)] → wp_X9_holds_2 sv Q  n aside x1 → W p l e ({ frames := 0, cells := 0, slots := 0, locals := 0 } : Room) s m args below meth c H locs 0 0 (MQ below (va_Qv (fun (u : (Nat → Int32)) => Q u) (fun u t => va_P G.1 gCl [oc h 9 [.ref h_s, .ref h_images, .int kept, .ref h_tape, .int typed, .ref h_draft, .int atv, .ref h_items, .ref h_moved, .ref h_sizes, .ref h_lanes, .ref h_less, .ref h_aside, .ref h_order], ai G h_s 161 sv, ai G h_aside 40 u] t.heap ∧ va_D A [oc h 9 [.ref h_s, .ref h_images, .int kept, .ref h_tape, .int typed, .ref h_draft, .int atv, .ref h_items, .ref h_moved, .ref h_sizes, .ref h_lanes, .ref h_less, .ref h_aside, .ref h_order], ai G h_s 161 sv, ai G h_aside 40 u]) A) args s 0 0 A) (F0 m 2 ls []) := by
  have C9 := C
  obtain ⟨hx, hb, hr, hlocks, hml, hown, hts, hK, hA⟩ := C9
  intro n
  induction n with
  | zero => intro aside x1 H locs hP hD hS ls hl hw; exact False.elim hw
  | succ n ih =>
    intro aside x1 H locs hP hD hS ls hl hw
    unfold wp_X9_holds_2 at hw
    refine lv_iload_n hx hb dX9_holds_2 rfl (lv_at hl 1 rfl) ?_
    refine lv_bipush (v := (40 : Int32)) hx hb dX9_holds_3 (by decide) ?_
    refine lv_icmp_ge (tgt := 26) hx hb dX9_holds_5 (by decide) (fun c_1 => ?_) (fun c_1 => ?_)
    · replace hw := hw.1 c_1
      have hP9 := hP
      have hD9 := hD
      exact W.vret hx hb hr (fun t ht hW => ⟨⟨aside, rfl, hw, by rw [ht]; exact hP9, hD9⟩, hS.F ht⟩) hS.2.2 dX9_holds_26
    · replace hw := hw.2 c_1
      refine lv_aload_n hx hb dX9_holds_8 rfl (lv_at hl 0 rfl) ?_
      refine va_get (D := G.1) (ci := 9) (v := .ref h_aside) (C := RX9) (T := TX9) (N := 14) hx hb hts in_X9 hown hK.1 hP 0 rfl rfl 12 (by decide) (hts _ q829) (fun _ h9 => h9) rfl dX9_holds_9 ?_
      refine lv_iload_n hx hb dX9_holds_12 rfl (lv_at hl 1 rfl) ?_
      refine lv_aload_n hx hb dX9_holds_13 rfl (lv_at hl 0 rfl) ?_
      refine va_get (D := G.1) (ci := 9) (v := .ref h_s) (C := RX9) (T := TX9) (N := 14) hx hb hts in_X9 hown hK.1 hP 0 rfl rfl 0 (by decide) (hts _ q817) (fun _ h9 => h9) rfl dX9_holds_14 ?_
      refine lv_iload_n hx hb dX9_holds_17 rfl (lv_at hl 1 rfl) ?_
      obtain ⟨i_2, hw⟩ := hw
      refine z_iald hx hb hK.1 hP 1 0 rfl rfl i_2 dX9_holds_18 (k := x1.toNatClampNeg) rfl ?_
      refine lv_topi (fun v_3 ev_3 => ?_)
      replace hw := hw v_3 ev_3
      obtain ⟨i_4, hw⟩ := hw
      refine z_iast hx hb hK.1 hP hD hS 2 0 rfl rfl i_4 dX9_holds_19 (k := x1.toNatClampNeg) rfl (fun f_5 ef_5 H locs hP hD hS => ?_)
      replace hw := hw f_5 ef_5
      have hP : va_P G.1 gCl [oc h 9 [.ref h_s, .ref h_images, .int kept, .ref h_tape, .int typed, .ref h_draft, .int atv, .ref h_items, .ref h_moved, .ref h_sizes, .ref h_lanes, .ref h_less, .ref h_aside, .ref h_order], ai G h_s 161 sv, ai G h_aside 40 f_5] H := hP
      have hD : va_D A [oc h 9 [.ref h_s, .ref h_images, .int kept, .ref h_tape, .int typed, .ref h_draft, .int atv, .ref h_items, .ref h_moved, .ref h_sizes, .ref h_lanes, .ref h_less, .ref h_aside, .ref h_order], ai G h_s 161 sv, ai G h_aside 40 f_5] := hD
      refine lv_iinc (v := (x1 + (1 : Int32))) (lv' := [(1, .int (x1 + (1 : Int32))), (0, .ref h)]) hx hb dX9_holds_20 hl (k := 1) rfl rfl (by decide) rfl (fun ls hl => ?_)
      refine lv_goto (tgt := 2) hx hb dX9_holds_23 (by decide) ?_
      exact ih f_5 (x1 + (1 : Int32)) H locs hP hD hS ls (lv_sub hl [1, 0] rfl) hw
def wp_X9_holds (sv : Nat → Int32) (aside : Nat → Int32) (Q : ((Nat → Int32)) → Prop) : Prop :=
  (∃ j_ : Nat, wp_X9_holds_2 sv Q  j_ aside (0 : Int32))
set_option maxHeartbeats 4000000 in
theorem mt_X9_holds (l : Launch) (G : GT) (h h_s h_images h_tape h_draft h_items h_moved h_sizes h_lanes h_less h_aside h_order : Nat) (sz : Nat) (kept : Int32) (typed : Int32) (atv : Int32) (sv : Nat → Int32) (aside : Nat → Int32) (Q : ((Nat → Int32)) → Prop) (hw : wp_X9_holds sv aside Q) : Met l yX9_holds (ws_ yX9_holds cX9_holds 2 none) ({ frames := 0, cells := 0, slots := 0, locals := 0 } : Room) (va_Pc [.ref h] (fun U => U.heap.size = sz ∧ va_P G.1 gCl [oc h 9 [.ref h_s, .ref h_images, .int kept, .ref h_tape, .int typed, .ref h_draft, .int atv, .ref h_items, .ref h_moved, .ref h_sizes, .ref h_lanes, .ref h_less, .ref h_aside, .ref h_order], ai G h_s 161 sv, ai G h_aside 40 aside] U.heap ∧ gK G U ∧ va_D (fun _ => True) [oc h 9 [.ref h_s, .ref h_images, .int kept, .ref h_tape, .int typed, .ref h_draft, .int atv, .ref h_items, .ref h_moved, .ref h_sizes, .ref h_lanes, .ref h_less, .ref h_aside, .ref h_order], ai G h_s 161 sv, ai G h_aside 40 aside])) ((fun A => (va_Qv (fun (u : (Nat → Int32)) => Q u) (fun u t => va_P G.1 gCl [oc h 9 [.ref h_s, .ref h_images, .int kept, .ref h_tape, .int typed, .ref h_draft, .int atv, .ref h_items, .ref h_moved, .ref h_sizes, .ref h_lanes, .ref h_less, .ref h_aside, .ref h_order], ai G h_s 161 sv, ai G h_aside 40 u] t.heap ∧ va_D A [oc h 9 [.ref h_s, .ref h_images, .int kept, .ref h_tape, .int typed, .ref h_draft, .int atv, .ref h_items, .ref h_moved, .ref h_sizes, .ref h_lanes, .ref h_less, .ref h_aside, .ref h_order], ai G h_s 161 sv, ai G h_aside 40 u]) A)) (va_A [oc h 9 [.ref h_s, .ref h_images, .int kept, .ref h_tape, .int typed, .ref h_draft, .int atv, .ref h_items, .ref h_moved, .ref h_sizes, .ref h_lanes, .ref h_less, .ref h_aside, .ref h_order], ai G h_s 161 sv, ai G h_aside 40 aside] sz)) 0 0 (va_A [oc h 9 [.ref h_s, .ref h_images, .int kept, .ref h_tape, .int typed, .ref h_draft, .int atv, .ref h_items, .ref h_moved, .ref h_sizes, .ref h_lanes, .ref h_less, .ref h_aside, .ref h_order], ai G h_s 161 sv, ai G h_aside 40 aside] sz) := by
  refine Met.ofW (cc := cX9_holds) (maxL := 2) (ret := none) (by decide) rfl ?_
  intro p e s m args below meth c s₁ B hml hv
  obtain ⟨rfl, hsz, hP, hK, hD0⟩ := hv
  have hx := B.exec
  have hb := B.bytes
  have hr := B.returns
  have hts := atoms_spec (ws := (ws_ yX9_holds cX9_holds 2 none)) B.pre
  have hts : ∀ w ∈ lw_all, w.before _ s = true := fun w h => hts w (List.mem_cons_of_mem _ h)
  have hown : s.vm.findClass RX9 = some m.cls := findClass_of_methodNamed B.named
  have hlocks := B.notSynchronized
  subst hsz
  have hD := hD0.self (sz := s.heap.size)
  generalize hAe : va_A [oc h 9 [.ref h_s, .ref h_images, .int kept, .ref h_tape, .int typed, .ref h_draft, .int atv, .ref h_items, .ref h_moved, .ref h_sizes, .ref h_lanes, .ref h_less, .ref h_aside, .ref h_order], ai G h_s 161 sv, ai G h_aside 40 aside] s.heap.size = A at hD ⊢
  have hA : ∀ q : Nat, s.heap.size ≤ q → A q := fun q h => by rw [← hAe]; exact Or.inr h
  have hS : va_S A s.heap s.heap [] := va_S.rf
  have C : Cx p s m meth c cX9_holds 2 none RX9 ([.ref h] : List Value).toArray G A := ⟨hx, hb, hr, hlocks, hml, hown, hts, hK, hA⟩
  have hl := lv_entry ([.ref h]) (n := 2) (Nat.le_of_ble_eq_true rfl)
  rw [lg_entry_eq]
  generalize (lg_sl ([.ref h]) ++ List.replicate (2 - (lg_sl ([.ref h])).length) Slot.unset).toArray = ls at hl ⊢
  have hl : lv_has ls 2 [(0, .ref h)] := hl
  unfold wp_X9_holds at hw
  refine lv_iconst (v := (0 : Int32)) hx hb dX9_holds_0 (by decide) ?_
  refine lv_istore_n (lv' := [(1, .int (0 : Int32)), (0, .ref h)]) hx hb dX9_holds_1 rfl hl (by decide) rfl (fun ls hl => ?_)
  obtain ⟨j_, hw⟩ := hw
  exact wk_X9_holds_2 h h_s h_images h_tape h_draft h_items h_moved h_sizes h_lanes h_less h_aside h_order kept typed atv sv  Q  C  j_ aside (0 : Int32) s.heap [] hP hD hS ls (lv_sub hl [1, 0] rfl) hw
/-! BattleBenchModel.lets()V -/
def wp_X9_lets_2 (aside : Nat → Int32) (Q : ((Nat → Int32)) → Prop)  : Nat → (Nat → Int32) → Int32 → Prop
  | 0, _, _ => False
  | n + 1, sv, x1 =>
    ((((40 : Int32) ≤ x1) → Q sv) ∧ (¬ ((40 : Int32) ≤ x1) → (vp_in x1 40 ∧ (∀ v_3 : Int32, v_3 = (aside x1.toNatClampNeg) → (vp_in x1 161 ∧ ∀ f_5 : Nat → Int32, f_5 = upd sv x1.toNatClampNeg v_3 → wp_X9_lets_2 aside Q  n f_5 (x1 + (1 : Int32)))))))
set_option maxHeartbeats 4000000 in
theorem wk_X9_lets_2 {p : Program} {l : Launch} {e : Env} {s : State} {m : MethodId} {below : List Frame} {meth : Method} {c : Code} {args : Array Value} {G : GT} {A : Nat → Prop} (h h_s h_images h_tape h_draft h_items h_moved h_sizes h_lanes h_less h_aside h_order : Nat) (kept : Int32) (typed : Int32) (atv : Int32) (aside : Nat → Int32) (Q : ((Nat → Int32)) → Prop)  (C : Cx p s m meth c cX9_lets 2 none RX9 args G A)  :
    ∀ (n : Nat), ∀  (sv : Nat → Int32) (x1 : Int32) (H : Heap) (locs : List Loc), va_P G.1 gCl [oc h 9 [.ref h_s, .ref h_images, .int kept, .ref h_tape, .int typed, .ref h_draft, .int atv, .ref h_items, .ref h_moved, .ref h_sizes, .ref h_lanes, .ref h_less, .ref h_aside, .ref h_order], ai G h_s 161 sv, ai G h_aside 40 aside] H → va_D A [oc h 9 [.ref h_s, .ref h_images, .int kept, .ref h_tape, .int typed, .ref h_draft, .int atv, .ref h_items, .ref h_moved, .ref h_sizes, .ref h_lanes, .ref h_less, .ref h_aside, .ref h_order], ai G h_s 161 sv, ai G h_aside 40 aside] → va_S A s.heap H locs → ∀ (ls : Array Slot), lv_has ls 2 [(0, .ref h), (1, .int x1)] → wp_X9_lets_2 aside Q  n sv x1 → W p l e ({ frames := 0, cells := 0, slots := 0, locals := 0 } : Room) s m args below meth c H locs 0 0 (MQ below (va_Qv (fun (u : (Nat → Int32)) => Q u) (fun u t => va_P G.1 gCl [oc h 9 [.ref h_s, .ref h_images, .int kept, .ref h_tape, .int typed, .ref h_draft, .int atv, .ref h_items, .ref h_moved, .ref h_sizes, .ref h_lanes, .ref h_less, .ref h_aside, .ref h_order], ai G h_s 161 u, ai G h_aside 40 aside] t.heap ∧ va_D A [oc h 9 [.ref h_s, .ref h_images, .int kept, .ref h_tape, .int typed, .ref h_draft, .int atv, .ref h_items, .ref h_moved, .ref h_sizes, .ref h_lanes, .ref h_less, .ref h_aside, .ref h_order], ai G h_s 161 u, ai G h_aside 40 aside]) A) args s 0 0 A) (F0 m 2 ls []) := by
  have C9 := C
  obtain ⟨hx, hb, hr, hlocks, hml, hown, hts, hK, hA⟩ := C9
  intro n
  induction n with
  | zero => intro sv x1 H locs hP hD hS ls hl hw; exact False.elim hw
  | succ n ih =>
    intro sv x1 H locs hP hD hS ls hl hw
    unfold wp_X9_lets_2 at hw
    refine lv_iload_n hx hb dX9_lets_2 rfl (lv_at hl 1 rfl) ?_
    refine lv_bipush (v := (40 : Int32)) hx hb dX9_lets_3 (by decide) ?_
    refine lv_icmp_ge (tgt := 26) hx hb dX9_lets_5 (by decide) (fun c_1 => ?_) (fun c_1 => ?_)
    · replace hw := hw.1 c_1
      have hP9 := hP
      have hD9 := hD
      exact W.vret hx hb hr (fun t ht hW => ⟨⟨sv, rfl, hw, by rw [ht]; exact hP9, hD9⟩, hS.F ht⟩) hS.2.2 dX9_lets_26
    · replace hw := hw.2 c_1
      refine lv_aload_n hx hb dX9_lets_8 rfl (lv_at hl 0 rfl) ?_
      refine va_get (D := G.1) (ci := 9) (v := .ref h_s) (C := RX9) (T := TX9) (N := 14) hx hb hts in_X9 hown hK.1 hP 0 rfl rfl 0 (by decide) (hts _ q817) (fun _ h9 => h9) rfl dX9_lets_9 ?_
      refine lv_iload_n hx hb dX9_lets_12 rfl (lv_at hl 1 rfl) ?_
      refine lv_aload_n hx hb dX9_lets_13 rfl (lv_at hl 0 rfl) ?_
      refine va_get (D := G.1) (ci := 9) (v := .ref h_aside) (C := RX9) (T := TX9) (N := 14) hx hb hts in_X9 hown hK.1 hP 0 rfl rfl 12 (by decide) (hts _ q829) (fun _ h9 => h9) rfl dX9_lets_14 ?_
      refine lv_iload_n hx hb dX9_lets_17 rfl (lv_at hl 1 rfl) ?_
      obtain ⟨i_2, hw⟩ := hw
      refine z_iald hx hb hK.1 hP 2 0 rfl rfl i_2 dX9_lets_18 (k := x1.toNatClampNeg) rfl ?_
      refine lv_topi (fun v_3 ev_3 => ?_)
      replace hw := hw v_3 ev_3
      obtain ⟨i_4, hw⟩ := hw
      refine z_iast hx hb hK.1 hP hD hS 1 0 rfl rfl i_4 dX9_lets_19 (k := x1.toNatClampNeg) rfl (fun f_5 ef_5 H locs hP hD hS => ?_)
      replace hw := hw f_5 ef_5
      have hP : va_P G.1 gCl [oc h 9 [.ref h_s, .ref h_images, .int kept, .ref h_tape, .int typed, .ref h_draft, .int atv, .ref h_items, .ref h_moved, .ref h_sizes, .ref h_lanes, .ref h_less, .ref h_aside, .ref h_order], ai G h_s 161 f_5, ai G h_aside 40 aside] H := hP
      have hD : va_D A [oc h 9 [.ref h_s, .ref h_images, .int kept, .ref h_tape, .int typed, .ref h_draft, .int atv, .ref h_items, .ref h_moved, .ref h_sizes, .ref h_lanes, .ref h_less, .ref h_aside, .ref h_order], ai G h_s 161 f_5, ai G h_aside 40 aside] := hD
      refine lv_iinc (v := (x1 + (1 : Int32))) (lv' := [(1, .int (x1 + (1 : Int32))), (0, .ref h)]) hx hb dX9_lets_20 hl (k := 1) rfl rfl (by decide) rfl (fun ls hl => ?_)
      refine lv_goto (tgt := 2) hx hb dX9_lets_23 (by decide) ?_
      exact ih f_5 (x1 + (1 : Int32)) H locs hP hD hS ls (lv_sub hl [1, 0] rfl) hw
def wp_X9_lets (sv : Nat → Int32) (aside : Nat → Int32) (Q : ((Nat → Int32)) → Prop) : Prop :=
  (∃ j_ : Nat, wp_X9_lets_2 aside Q  j_ sv (0 : Int32))
set_option maxHeartbeats 4000000 in
theorem mt_X9_lets (l : Launch) (G : GT) (h h_s h_images h_tape h_draft h_items h_moved h_sizes h_lanes h_less h_aside h_order : Nat) (sz : Nat) (kept : Int32) (typed : Int32) (atv : Int32) (sv : Nat → Int32) (aside : Nat → Int32) (Q : ((Nat → Int32)) → Prop) (hw : wp_X9_lets sv aside Q) : Met l yX9_lets (ws_ yX9_lets cX9_lets 2 none) ({ frames := 0, cells := 0, slots := 0, locals := 0 } : Room) (va_Pc [.ref h] (fun U => U.heap.size = sz ∧ va_P G.1 gCl [oc h 9 [.ref h_s, .ref h_images, .int kept, .ref h_tape, .int typed, .ref h_draft, .int atv, .ref h_items, .ref h_moved, .ref h_sizes, .ref h_lanes, .ref h_less, .ref h_aside, .ref h_order], ai G h_s 161 sv, ai G h_aside 40 aside] U.heap ∧ gK G U ∧ va_D (fun _ => True) [oc h 9 [.ref h_s, .ref h_images, .int kept, .ref h_tape, .int typed, .ref h_draft, .int atv, .ref h_items, .ref h_moved, .ref h_sizes, .ref h_lanes, .ref h_less, .ref h_aside, .ref h_order], ai G h_s 161 sv, ai G h_aside 40 aside])) ((fun A => (va_Qv (fun (u : (Nat → Int32)) => Q u) (fun u t => va_P G.1 gCl [oc h 9 [.ref h_s, .ref h_images, .int kept, .ref h_tape, .int typed, .ref h_draft, .int atv, .ref h_items, .ref h_moved, .ref h_sizes, .ref h_lanes, .ref h_less, .ref h_aside, .ref h_order], ai G h_s 161 u, ai G h_aside 40 aside] t.heap ∧ va_D A [oc h 9 [.ref h_s, .ref h_images, .int kept, .ref h_tape, .int typed, .ref h_draft, .int atv, .ref h_items, .ref h_moved, .ref h_sizes, .ref h_lanes, .ref h_less, .ref h_aside, .ref h_order], ai G h_s 161 u, ai G h_aside 40 aside]) A)) (va_A [oc h 9 [.ref h_s, .ref h_images, .int kept, .ref h_tape, .int typed, .ref h_draft, .int atv, .ref h_items, .ref h_moved, .ref h_sizes, .ref h_lanes, .ref h_less, .ref h_aside, .ref h_order], ai G h_s 161 sv, ai G h_aside 40 aside] sz)) 0 0 (va_A [oc h 9 [.ref h_s, .ref h_images, .int kept, .ref h_tape, .int typed, .ref h_draft, .int atv, .ref h_items, .ref h_moved, .ref h_sizes, .ref h_lanes, .ref h_less, .ref h_aside, .ref h_order], ai G h_s 161 sv, ai G h_aside 40 aside] sz) := by
  refine Met.ofW (cc := cX9_lets) (maxL := 2) (ret := none) (by decide) rfl ?_
  intro p e s m args below meth c s₁ B hml hv
  obtain ⟨rfl, hsz, hP, hK, hD0⟩ := hv
  have hx := B.exec
  have hb := B.bytes
  have hr := B.returns
  have hts := atoms_spec (ws := (ws_ yX9_lets cX9_lets 2 none)) B.pre
  have hts : ∀ w ∈ lw_all, w.before _ s = true := fun w h => hts w (List.mem_cons_of_mem _ h)
  have hown : s.vm.findClass RX9 = some m.cls := findClass_of_methodNamed B.named
  have hlocks := B.notSynchronized
  subst hsz
  have hD := hD0.self (sz := s.heap.size)
  generalize hAe : va_A [oc h 9 [.ref h_s, .ref h_images, .int kept, .ref h_tape, .int typed, .ref h_draft, .int atv, .ref h_items, .ref h_moved, .ref h_sizes, .ref h_lanes, .ref h_less, .ref h_aside, .ref h_order], ai G h_s 161 sv, ai G h_aside 40 aside] s.heap.size = A at hD ⊢
  have hA : ∀ q : Nat, s.heap.size ≤ q → A q := fun q h => by rw [← hAe]; exact Or.inr h
  have hS : va_S A s.heap s.heap [] := va_S.rf
  have C : Cx p s m meth c cX9_lets 2 none RX9 ([.ref h] : List Value).toArray G A := ⟨hx, hb, hr, hlocks, hml, hown, hts, hK, hA⟩
  have hl := lv_entry ([.ref h]) (n := 2) (Nat.le_of_ble_eq_true rfl)
  rw [lg_entry_eq]
  generalize (lg_sl ([.ref h]) ++ List.replicate (2 - (lg_sl ([.ref h])).length) Slot.unset).toArray = ls at hl ⊢
  have hl : lv_has ls 2 [(0, .ref h)] := hl
  unfold wp_X9_lets at hw
  refine lv_iconst (v := (0 : Int32)) hx hb dX9_lets_0 (by decide) ?_
  refine lv_istore_n (lv' := [(1, .int (0 : Int32)), (0, .ref h)]) hx hb dX9_lets_1 rfl hl (by decide) rfl (fun ls hl => ?_)
  obtain ⟨j_, hw⟩ := hw
  exact wk_X9_lets_2 h h_s h_images h_tape h_draft h_items h_moved h_sizes h_lanes h_less h_aside h_order kept typed atv aside  Q  C  j_ sv (0 : Int32) s.heap [] hP hD hS ls (lv_sub hl [1, 0] rfl) hw
/-! BattleBenchModel.ahead(II)I -/
def wp_X9_ahead_26 (p1 : Int32) (p2 : Int32) (Q : Int32 → ((Nat → Int32) × (Nat → Int32) × (Nat → Int32)) → Prop)  : Nat → (Nat → Int32) → (Nat → Int32) → (Nat → Int32) → Int32 → Prop
  | 0, _, _, _, _ => False
  | n + 1, sv, less, aside, x3 =>
    (((p2 ≤ x3) → (vp_in ((4 : Int32) + p1) 161 ∧ (∀ v_3 : Int32, v_3 = (sv (((4 : Int32) + p1)).toNatClampNeg) → wp_X9_lets sv aside  (fun u_4 => Q v_3 (u_4, less, aside))))) ∧ (¬ (p2 ≤ x3) → wp_X9_passes sv less  (fun u_5 => wp_X9_ahead_26 p1 p2 Q  n u_5.1 u_5.2 aside (x3 + (1 : Int32)))))
set_option maxHeartbeats 4000000 in
theorem wk_X9_ahead_26 {p : Program} {l : Launch} {e : Env} {s : State} {m : MethodId} {below : List Frame} {meth : Method} {c : Code} {args : Array Value} {G : GT} {A : Nat → Prop} (h h_s h_images h_tape h_draft h_items h_moved h_sizes h_lanes h_less h_aside h_order : Nat) (kept : Int32) (typed : Int32) (atv : Int32) (p1 : Int32) (p2 : Int32) (Q : Int32 → ((Nat → Int32) × (Nat → Int32) × (Nat → Int32)) → Prop)  (C : Cx p s m meth c cX9_ahead 4 (some .int) RX9 args G A)  :
    ∀ (n : Nat), ∀  (sv : Nat → Int32) (less : Nat → Int32) (aside : Nat → Int32) (x3 : Int32) (H : Heap) (locs : List Loc), va_P G.1 gCl [oc h 9 [.ref h_s, .ref h_images, .int kept, .ref h_tape, .int typed, .ref h_draft, .int atv, .ref h_items, .ref h_moved, .ref h_sizes, .ref h_lanes, .ref h_less, .ref h_aside, .ref h_order], ai G h_s 161 sv, ai G h_less 6 less, ai G h_aside 40 aside] H → va_D A [oc h 9 [.ref h_s, .ref h_images, .int kept, .ref h_tape, .int typed, .ref h_draft, .int atv, .ref h_items, .ref h_moved, .ref h_sizes, .ref h_lanes, .ref h_less, .ref h_aside, .ref h_order], ai G h_s 161 sv, ai G h_less 6 less, ai G h_aside 40 aside] → va_S A s.heap H locs → ∀ (ls : Array Slot), lv_has ls 4 [(0, .ref h), (1, .int p1), (2, .int p2), (3, .int x3)] → wp_X9_ahead_26 p1 p2 Q  n sv less aside x3 → W p l e ({ frames := 5, cells := 0, slots := 0, locals := 113 } : Room) s m args below meth c H locs 0 0 (MQ below (va_Qi (fun (r : Int32) (u : (Nat → Int32) × (Nat → Int32) × (Nat → Int32)) => Q r u) (fun u t => va_P G.1 gCl [oc h 9 [.ref h_s, .ref h_images, .int kept, .ref h_tape, .int typed, .ref h_draft, .int atv, .ref h_items, .ref h_moved, .ref h_sizes, .ref h_lanes, .ref h_less, .ref h_aside, .ref h_order], ai G h_s 161 u.1, ai G h_less 6 u.2.1, ai G h_aside 40 u.2.2] t.heap ∧ va_D A [oc h 9 [.ref h_s, .ref h_images, .int kept, .ref h_tape, .int typed, .ref h_draft, .int atv, .ref h_items, .ref h_moved, .ref h_sizes, .ref h_lanes, .ref h_less, .ref h_aside, .ref h_order], ai G h_s 161 u.1, ai G h_less 6 u.2.1, ai G h_aside 40 u.2.2]) A) args s 0 0 A) (F0 m 26 ls []) := by
  have C9 := C
  obtain ⟨hx, hb, hr, hlocks, hml, hown, hts, hK, hA⟩ := C9
  intro n
  induction n with
  | zero => intro sv less aside x3 H locs hP hD hS ls hl hw; exact False.elim hw
  | succ n ih =>
    intro sv less aside x3 H locs hP hD hS ls hl hw
    unfold wp_X9_ahead_26 at hw
    refine lv_iload_n hx hb dX9_ahead_26 rfl (lv_at hl 3 rfl) ?_
    refine lv_iload_n hx hb dX9_ahead_27 rfl (lv_at hl 2 rfl) ?_
    refine lv_icmp_ge (tgt := 41) hx hb dX9_ahead_28 (by decide) (fun c_1 => ?_) (fun c_1 => ?_)
    · replace hw := hw.1 c_1
      refine lv_aload_n hx hb dX9_ahead_41 rfl (lv_at hl 0 rfl) ?_
      refine va_get (D := G.1) (ci := 9) (v := .ref h_s) (C := RX9) (T := TX9) (N := 14) hx hb hts in_X9 hown hK.1 hP 0 rfl rfl 0 (by decide) (hts _ q817) (fun _ h9 => h9) rfl dX9_ahead_42 ?_
      refine lv_iconst (v := (4 : Int32)) hx hb dX9_ahead_45 (by decide) ?_
      refine lv_iload_n hx hb dX9_ahead_46 rfl (lv_at hl 1 rfl) ?_
      refine lv_iadd hx hb dX9_ahead_47 ?_
      obtain ⟨i_2, hw⟩ := hw
      refine z_iald hx hb hK.1 hP 1 0 rfl rfl i_2 dX9_ahead_48 (k := (((4 : Int32) + p1)).toNatClampNeg) rfl ?_
      refine lv_topi (fun v_3 ev_3 => ?_)
      replace hw := hw v_3 ev_3
      refine lv_istore_n (lv' := [(3, .int v_3), (0, .ref h), (1, .int p1), (2, .int p2)]) hx hb dX9_ahead_49 rfl hl (by decide) rfl (fun ls hl => ?_)
      refine lv_aload_n hx hb dX9_ahead_50 rfl (lv_at hl 1 rfl) ?_
      have hPc := hP.sub (ws' := [oc h 9 [.ref h_s, .ref h_images, .int kept, .ref h_tape, .int typed, .ref h_draft, .int atv, .ref h_items, .ref h_moved, .ref h_sizes, .ref h_lanes, .ref h_less, .ref h_aside, .ref h_order], ai G h_s 161 sv, ai G h_aside 40 aside]) [0, 1, 3] rfl
      have hDc := hD.sub (ws' := [oc h 9 [.ref h_s, .ref h_images, .int kept, .ref h_tape, .int typed, .ref h_draft, .int atv, .ref h_items, .ref h_moved, .ref h_sizes, .ref h_lanes, .ref h_less, .ref h_aside, .ref h_order], ai G h_s 161 sv, ai G h_aside 40 aside]) [0, 1, 3] (by decide) rfl
      have hFc := va_free (wc := [oc h 9 [.ref h_s, .ref h_images, .int kept, .ref h_tape, .int typed, .ref h_draft, .int atv, .ref h_items, .ref h_moved, .ref h_sizes, .ref h_lanes, .ref h_less, .ref h_aside, .ref h_order], ai G h_s 161 sv, ai G h_aside 40 aside]) hD hS hA [0, 1, 3] rfl
      refine va_callv (va_runV (As := []) (rest := []) ⟨hx, hb, hml, hown, hts⟩ (mt_X9_lets l G h h_s h_images h_tape h_draft h_items h_moved h_sizes h_lanes h_less h_aside h_order H.size kept typed atv sv aside  _ hw) (cwV 0 hts (lw_V q1014 q1016 qs46 q65 q1017) rfl rfl rfl (by decide +kernel) ⟨Nat.le_of_ble_eq_true rfl, Nat.le_of_ble_eq_true rfl⟩) ⟨fun a U g mk q => by obtain ⟨q0, q1, qP, qK, qD⟩ := q; exact ⟨q0, q1, qP, qK.call, qD⟩, va_recv hK.1 hP (ci := 9) (q0 := 0) rfl rfl, fun U hU hW => ⟨rfl, by rw [hU], by rw [hU]; exact hPc, hK.warm hW, hDc.weaken (fun _ _ _ _ => trivial)⟩⟩ rfl rfl hl.1 rfl (lv_room (Nat.le_of_ble_eq_true rfl)) dX9_ahead_51 ⟨Nat.le_of_ble_eq_true rfl, Nat.le_of_ble_eq_true rfl⟩) hS (fun q _ h => hFc q h) hFc (fun u_4 t H1 locs ht hvm hw hB hz1 hk1 hS => ?_)
      obtain ⟨hP1, hD1⟩ := hB
      rw [ht] at hP1
      obtain ⟨hP, hD⟩ := va_join (wr := [ai G h_less 6 less]) (w1 := [oc h 9 [.ref h_s, .ref h_images, .int kept, .ref h_tape, .int typed, .ref h_draft, .int atv, .ref h_items, .ref h_moved, .ref h_sizes, .ref h_lanes, .ref h_less, .ref h_aside, .ref h_order], ai G h_s 161 u_4, ai G h_aside 40 aside]) hP hD [0, 1, 3] [2] rfl rfl (by decide) (by decide) hk1 hFc hP1 hD1
      clear hPc hDc hFc hP1 hD1 hz1 hk1 hvm
      generalize H1 = H at hP hS ⊢
      have hP : va_P G.1 gCl [ai G h_less 6 less, oc h 9 [.ref h_s, .ref h_images, .int kept, .ref h_tape, .int typed, .ref h_draft, .int atv, .ref h_items, .ref h_moved, .ref h_sizes, .ref h_lanes, .ref h_less, .ref h_aside, .ref h_order], ai G h_s 161 u_4, ai G h_aside 40 aside] H := hP
      have hD : va_D A [ai G h_less 6 less, oc h 9 [.ref h_s, .ref h_images, .int kept, .ref h_tape, .int typed, .ref h_draft, .int atv, .ref h_items, .ref h_moved, .ref h_sizes, .ref h_lanes, .ref h_less, .ref h_aside, .ref h_order], ai G h_s 161 u_4, ai G h_aside 40 aside] := hD
      refine lv_iload_n hx hb dX9_ahead_54 rfl (lv_at hl 0 rfl) ?_
      have hP9 := hP.sub (ws' := [oc h 9 [.ref h_s, .ref h_images, .int kept, .ref h_tape, .int typed, .ref h_draft, .int atv, .ref h_items, .ref h_moved, .ref h_sizes, .ref h_lanes, .ref h_less, .ref h_aside, .ref h_order], ai G h_s 161 u_4, ai G h_less 6 less, ai G h_aside 40 aside]) [1, 2, 0, 3] rfl
      have hD9 := hD.sub (ws' := [oc h 9 [.ref h_s, .ref h_images, .int kept, .ref h_tape, .int typed, .ref h_draft, .int atv, .ref h_items, .ref h_moved, .ref h_sizes, .ref h_lanes, .ref h_less, .ref h_aside, .ref h_order], ai G h_s 161 u_4, ai G h_less 6 less, ai G h_aside 40 aside]) [1, 2, 0, 3] (by decide) rfl
      exact W.iret (v := v_3) hx hb hr (fun t ht hW => ⟨⟨v_3, (u_4, less, aside), rfl, hw, by rw [ht]; exact hP9, hD9⟩, hS.F ht⟩) hS.2.2 dX9_ahead_55
    · replace hw := hw.2 c_1
      refine lv_aload_n hx hb dX9_ahead_31 rfl (lv_at hl 0 rfl) ?_
      have hPc := hP.sub (ws' := [oc h 9 [.ref h_s, .ref h_images, .int kept, .ref h_tape, .int typed, .ref h_draft, .int atv, .ref h_items, .ref h_moved, .ref h_sizes, .ref h_lanes, .ref h_less, .ref h_aside, .ref h_order], ai G h_s 161 sv, ai G h_less 6 less]) [0, 1, 2] rfl
      have hDc := hD.sub (ws' := [oc h 9 [.ref h_s, .ref h_images, .int kept, .ref h_tape, .int typed, .ref h_draft, .int atv, .ref h_items, .ref h_moved, .ref h_sizes, .ref h_lanes, .ref h_less, .ref h_aside, .ref h_order], ai G h_s 161 sv, ai G h_less 6 less]) [0, 1, 2] (by decide) rfl
      have hFc := va_free (wc := [oc h 9 [.ref h_s, .ref h_images, .int kept, .ref h_tape, .int typed, .ref h_draft, .int atv, .ref h_items, .ref h_moved, .ref h_sizes, .ref h_lanes, .ref h_less, .ref h_aside, .ref h_order], ai G h_s 161 sv, ai G h_less 6 less]) hD hS hA [0, 1, 2] rfl
      refine va_callv (va_runV (As := []) (rest := []) ⟨hx, hb, hml, hown, hts⟩ (mt_X9_passes l G h h_s h_images h_tape h_draft h_items h_moved h_sizes h_lanes h_less h_aside h_order H.size kept typed atv sv less  _ hw) (cwV 0 hts (lw_V q972 q974 qs43 q65 q975) rfl rfl rfl (by decide +kernel) ⟨Nat.le_of_ble_eq_true rfl, Nat.le_of_ble_eq_true rfl⟩) ⟨fun a U g mk q => by obtain ⟨q0, q1, qP, qK, qD⟩ := q; exact ⟨q0, q1, qP, qK.call, qD⟩, va_recv hK.1 hP (ci := 9) (q0 := 0) rfl rfl, fun U hU hW => ⟨rfl, by rw [hU], by rw [hU]; exact hPc, hK.warm hW, hDc.weaken (fun _ _ _ _ => trivial)⟩⟩ rfl rfl hl.1 rfl (lv_room (Nat.le_of_ble_eq_true rfl)) dX9_ahead_32 ⟨Nat.le_of_ble_eq_true rfl, Nat.le_of_ble_eq_true rfl⟩) hS (fun q _ h => hFc q h) hFc (fun u_5 t H1 locs ht hvm hw hB hz1 hk1 hS => ?_)
      obtain ⟨hP1, hD1⟩ := hB
      rw [ht] at hP1
      obtain ⟨hP, hD⟩ := va_join (wr := [ai G h_aside 40 aside]) (w1 := [oc h 9 [.ref h_s, .ref h_images, .int kept, .ref h_tape, .int typed, .ref h_draft, .int atv, .ref h_items, .ref h_moved, .ref h_sizes, .ref h_lanes, .ref h_less, .ref h_aside, .ref h_order], ai G h_s 161 u_5.1, ai G h_less 6 u_5.2]) hP hD [0, 1, 2] [3] rfl rfl (by decide) (by decide) hk1 hFc hP1 hD1
      clear hPc hDc hFc hP1 hD1 hz1 hk1 hvm
      generalize H1 = H at hP hS ⊢
      have hP : va_P G.1 gCl [ai G h_aside 40 aside, oc h 9 [.ref h_s, .ref h_images, .int kept, .ref h_tape, .int typed, .ref h_draft, .int atv, .ref h_items, .ref h_moved, .ref h_sizes, .ref h_lanes, .ref h_less, .ref h_aside, .ref h_order], ai G h_s 161 u_5.1, ai G h_less 6 u_5.2] H := hP
      have hD : va_D A [ai G h_aside 40 aside, oc h 9 [.ref h_s, .ref h_images, .int kept, .ref h_tape, .int typed, .ref h_draft, .int atv, .ref h_items, .ref h_moved, .ref h_sizes, .ref h_lanes, .ref h_less, .ref h_aside, .ref h_order], ai G h_s 161 u_5.1, ai G h_less 6 u_5.2] := hD
      refine lv_iinc (v := (x3 + (1 : Int32))) (lv' := [(3, .int (x3 + (1 : Int32))), (0, .ref h), (1, .int p1), (2, .int p2)]) hx hb dX9_ahead_35 hl (k := 3) rfl rfl (by decide) rfl (fun ls hl => ?_)
      refine lv_goto (tgt := 26) hx hb dX9_ahead_38 (by decide) ?_
      exact ih u_5.1 u_5.2 aside (x3 + (1 : Int32)) H locs (hP.sub [1, 2, 3, 0] rfl) (hD.sub [1, 2, 3, 0] (by decide) rfl) hS ls (lv_sub hl [1, 2, 3, 0] rfl) hw
def wp_X9_ahead (sv : Nat → Int32) (less : Nat → Int32) (aside : Nat → Int32) (p1 : Int32) (p2 : Int32) (Q : Int32 → ((Nat → Int32) × (Nat → Int32) × (Nat → Int32)) → Prop) : Prop :=
  wp_X9_isMan sv p1 (fun r_1 => (((r_1 = 0) → Q (-1 : Int32) (sv, less, aside)) ∧ (¬ (r_1 = 0) → wp_X9_in  p2 (0 : Int32) (60 : Int32) (fun r_3 => ((¬ (r_3 = 0) → wp_X9_holds sv aside  (fun u_5 => (∃ j_ : Nat, wp_X9_ahead_26 p1 p2 Q  j_ sv less u_5 (0 : Int32)))) ∧ ((r_3 = 0) → Q (-1 : Int32) (sv, less, aside)))))))
set_option maxHeartbeats 4000000 in
theorem mt_X9_ahead (l : Launch) (G : GT) (h h_s h_images h_tape h_draft h_items h_moved h_sizes h_lanes h_less h_aside h_order : Nat) (sz : Nat) (kept : Int32) (typed : Int32) (atv : Int32) (sv : Nat → Int32) (less : Nat → Int32) (aside : Nat → Int32) (p1 : Int32) (p2 : Int32) (Q : Int32 → ((Nat → Int32) × (Nat → Int32) × (Nat → Int32)) → Prop) (hw : wp_X9_ahead sv less aside p1 p2 Q) : Met l yX9_ahead (ws_ yX9_ahead cX9_ahead 4 (some .int)) ({ frames := 5, cells := 0, slots := 0, locals := 113 } : Room) (va_Pc [.ref h, .int p1, .int p2] (fun U => U.heap.size = sz ∧ va_P G.1 gCl [oc h 9 [.ref h_s, .ref h_images, .int kept, .ref h_tape, .int typed, .ref h_draft, .int atv, .ref h_items, .ref h_moved, .ref h_sizes, .ref h_lanes, .ref h_less, .ref h_aside, .ref h_order], ai G h_s 161 sv, ai G h_less 6 less, ai G h_aside 40 aside] U.heap ∧ gK G U ∧ va_D (fun _ => True) [oc h 9 [.ref h_s, .ref h_images, .int kept, .ref h_tape, .int typed, .ref h_draft, .int atv, .ref h_items, .ref h_moved, .ref h_sizes, .ref h_lanes, .ref h_less, .ref h_aside, .ref h_order], ai G h_s 161 sv, ai G h_less 6 less, ai G h_aside 40 aside])) ((fun A => (va_Qi (fun (r : Int32) (u : (Nat → Int32) × (Nat → Int32) × (Nat → Int32)) => Q r u) (fun u t => va_P G.1 gCl [oc h 9 [.ref h_s, .ref h_images, .int kept, .ref h_tape, .int typed, .ref h_draft, .int atv, .ref h_items, .ref h_moved, .ref h_sizes, .ref h_lanes, .ref h_less, .ref h_aside, .ref h_order], ai G h_s 161 u.1, ai G h_less 6 u.2.1, ai G h_aside 40 u.2.2] t.heap ∧ va_D A [oc h 9 [.ref h_s, .ref h_images, .int kept, .ref h_tape, .int typed, .ref h_draft, .int atv, .ref h_items, .ref h_moved, .ref h_sizes, .ref h_lanes, .ref h_less, .ref h_aside, .ref h_order], ai G h_s 161 u.1, ai G h_less 6 u.2.1, ai G h_aside 40 u.2.2]) A)) (va_A [oc h 9 [.ref h_s, .ref h_images, .int kept, .ref h_tape, .int typed, .ref h_draft, .int atv, .ref h_items, .ref h_moved, .ref h_sizes, .ref h_lanes, .ref h_less, .ref h_aside, .ref h_order], ai G h_s 161 sv, ai G h_less 6 less, ai G h_aside 40 aside] sz)) 0 0 (va_A [oc h 9 [.ref h_s, .ref h_images, .int kept, .ref h_tape, .int typed, .ref h_draft, .int atv, .ref h_items, .ref h_moved, .ref h_sizes, .ref h_lanes, .ref h_less, .ref h_aside, .ref h_order], ai G h_s 161 sv, ai G h_less 6 less, ai G h_aside 40 aside] sz) := by
  refine Met.ofW (cc := cX9_ahead) (maxL := 4) (ret := (some .int)) (by decide) rfl ?_
  intro p e s m args below meth c s₁ B hml hv
  obtain ⟨rfl, hsz, hP, hK, hD0⟩ := hv
  have hx := B.exec
  have hb := B.bytes
  have hr := B.returns
  have hts := atoms_spec (ws := (ws_ yX9_ahead cX9_ahead 4 (some .int))) B.pre
  have hts : ∀ w ∈ lw_all, w.before _ s = true := fun w h => hts w (List.mem_cons_of_mem _ h)
  have hown : s.vm.findClass RX9 = some m.cls := findClass_of_methodNamed B.named
  have hlocks := B.notSynchronized
  subst hsz
  have hD := hD0.self (sz := s.heap.size)
  generalize hAe : va_A [oc h 9 [.ref h_s, .ref h_images, .int kept, .ref h_tape, .int typed, .ref h_draft, .int atv, .ref h_items, .ref h_moved, .ref h_sizes, .ref h_lanes, .ref h_less, .ref h_aside, .ref h_order], ai G h_s 161 sv, ai G h_less 6 less, ai G h_aside 40 aside] s.heap.size = A at hD ⊢
  have hA : ∀ q : Nat, s.heap.size ≤ q → A q := fun q h => by rw [← hAe]; exact Or.inr h
  have hS : va_S A s.heap s.heap [] := va_S.rf
  have C : Cx p s m meth c cX9_ahead 4 (some .int) RX9 ([.ref h, .int p1, .int p2] : List Value).toArray G A := ⟨hx, hb, hr, hlocks, hml, hown, hts, hK, hA⟩
  have hl := lv_entry ([.ref h, .int p1, .int p2]) (n := 4) (Nat.le_of_ble_eq_true rfl)
  rw [lg_entry_eq]
  generalize (lg_sl ([.ref h, .int p1, .int p2]) ++ List.replicate (4 - (lg_sl ([.ref h, .int p1, .int p2])).length) Slot.unset).toArray = ls at hl ⊢
  have hl : lv_has ls 4 [(0, .ref h), (1, .int p1), (2, .int p2)] := hl
  unfold wp_X9_ahead at hw
  refine lv_aload_n hx hb dX9_ahead_0 rfl (lv_at hl 0 rfl) ?_
  refine lv_iload_n hx hb dX9_ahead_1 rfl (lv_at hl 1 rfl) ?_
  have hPc := hP.sub (ws' := [oc h 9 [.ref h_s, .ref h_images, .int kept, .ref h_tape, .int typed, .ref h_draft, .int atv, .ref h_items, .ref h_moved, .ref h_sizes, .ref h_lanes, .ref h_less, .ref h_aside, .ref h_order], ai G h_s 161 sv]) [0, 1] rfl
  have hDc := hD.sub (ws' := [oc h 9 [.ref h_s, .ref h_images, .int kept, .ref h_tape, .int typed, .ref h_draft, .int atv, .ref h_items, .ref h_moved, .ref h_sizes, .ref h_lanes, .ref h_less, .ref h_aside, .ref h_order], ai G h_s 161 sv]) [0, 1] (by decide) rfl
  have hFc := va_free (wc := [oc h 9 [.ref h_s, .ref h_images, .int kept, .ref h_tape, .int typed, .ref h_draft, .int atv, .ref h_items, .ref h_moved, .ref h_sizes, .ref h_lanes, .ref h_less, .ref h_aside, .ref h_order], ai G h_s 161 sv]) hD hS hA [0, 1] rfl
  refine va_calli (va_runV (As := [.int p1]) (rest := []) ⟨hx, hb, hml, hown, hts⟩ (mt_X9_isMan l G h h_s h_images h_tape h_draft h_items h_moved h_sizes h_lanes h_less h_aside h_order s.heap.size kept typed atv sv p1 _ hw) (cwV 1 hts (lw_V q875 q877 qs27 q65 q878) rfl rfl rfl (by decide +kernel) ⟨Nat.le_of_ble_eq_true rfl, Nat.le_of_ble_eq_true rfl⟩) ⟨fun a U g mk q => by obtain ⟨q0, q1, qP, qK, qD⟩ := q; exact ⟨q0, q1, qP, qK.call, qD⟩, va_recv hK.1 hP (ci := 9) (q0 := 0) rfl rfl, fun U hU hW => ⟨rfl, by rw [hU], by rw [hU]; exact hPc, hK.warm hW, hDc.weaken (fun _ _ _ _ => trivial)⟩⟩ rfl rfl hl.1 rfl (lv_room (Nat.le_of_ble_eq_true rfl)) dX9_ahead_2 ⟨Nat.le_of_ble_eq_true rfl, Nat.le_of_ble_eq_true rfl⟩) hS (fun q _ h => hFc q h) hFc (fun r_1 _ t H1 locs ht hvm hw hB hz1 hk1 hS => ?_)
  obtain ⟨hP1, hD1⟩ := hB
  rw [ht] at hP1
  obtain ⟨hP, hD⟩ := va_join (wr := [ai G h_less 6 less, ai G h_aside 40 aside]) (w1 := [oc h 9 [.ref h_s, .ref h_images, .int kept, .ref h_tape, .int typed, .ref h_draft, .int atv, .ref h_items, .ref h_moved, .ref h_sizes, .ref h_lanes, .ref h_less, .ref h_aside, .ref h_order], ai G h_s 161 sv]) hP hD [0, 1] [2, 3] rfl rfl (by decide) (by decide) hk1 hFc hP1 hD1
  clear hPc hDc hFc hP1 hD1 hz1 hk1 hvm
  generalize H1 = H at hP hS ⊢
  have hP : va_P G.1 gCl [ai G h_less 6 less, ai G h_aside 40 aside, oc h 9 [.ref h_s, .ref h_images, .int kept, .ref h_tape, .int typed, .ref h_draft, .int atv, .ref h_items, .ref h_moved, .ref h_sizes, .ref h_lanes, .ref h_less, .ref h_aside, .ref h_order], ai G h_s 161 sv] H := hP
  have hD : va_D A [ai G h_less 6 less, ai G h_aside 40 aside, oc h 9 [.ref h_s, .ref h_images, .int kept, .ref h_tape, .int typed, .ref h_draft, .int atv, .ref h_items, .ref h_moved, .ref h_sizes, .ref h_lanes, .ref h_less, .ref h_aside, .ref h_order], ai G h_s 161 sv] := hD
  refine lv_if_eq (tgt := 18) hx hb dX9_ahead_5 (by decide) (fun c_2 => ?_) (fun c_2 => ?_)
  · replace hw := hw.1 c_2
    refine lv_iconst (v := (-1 : Int32)) hx hb dX9_ahead_18 (by decide) ?_
    have hP9 := hP.sub (ws' := [oc h 9 [.ref h_s, .ref h_images, .int kept, .ref h_tape, .int typed, .ref h_draft, .int atv, .ref h_items, .ref h_moved, .ref h_sizes, .ref h_lanes, .ref h_less, .ref h_aside, .ref h_order], ai G h_s 161 sv, ai G h_less 6 less, ai G h_aside 40 aside]) [2, 3, 0, 1] rfl
    have hD9 := hD.sub (ws' := [oc h 9 [.ref h_s, .ref h_images, .int kept, .ref h_tape, .int typed, .ref h_draft, .int atv, .ref h_items, .ref h_moved, .ref h_sizes, .ref h_lanes, .ref h_less, .ref h_aside, .ref h_order], ai G h_s 161 sv, ai G h_less 6 less, ai G h_aside 40 aside]) [2, 3, 0, 1] (by decide) rfl
    exact W.iret (v := (-1 : Int32)) hx hb hr (fun t ht hW => ⟨⟨(-1 : Int32), (sv, less, aside), rfl, hw, by rw [ht]; exact hP9, hD9⟩, hS.F ht⟩) hS.2.2 dX9_ahead_19
  · replace hw := hw.2 c_2
    refine lv_iload_n hx hb dX9_ahead_8 rfl (lv_at hl 2 rfl) ?_
    refine lv_iconst (v := (0 : Int32)) hx hb dX9_ahead_9 (by decide) ?_
    refine lv_bipush (v := (60 : Int32)) hx hb dX9_ahead_10 (by decide) ?_
    have hPc := hP.sub (ws' := []) [] rfl
    have hDc := hD.sub (ws' := []) [] (by decide) rfl
    have hFc := va_free (wc := []) hD hS hA [] rfl
    refine va_calli (va_runS (As := [.int p2, .int (0 : Int32), .int (60 : Int32)]) (rest := []) ⟨hx, hb, hml, hown, hts⟩ (mt_X9_in l G  H.size  p2 (0 : Int32) (60 : Int32) _ hw) (va_cwS 3 hts (lw_S q864 q865 q65 q866) rfl rfl rfl (by decide +kernel) ⟨Nat.le_of_ble_eq_true rfl, Nat.le_of_ble_eq_true rfl⟩) ⟨fun a U g mk q => by obtain ⟨q0, q1, qP, qK, qD⟩ := q; exact ⟨q0, q1, qP, qK.call, qD⟩, fun U hU hW => ⟨rfl, by rw [hU], by rw [hU]; exact hPc, hK.warm hW, hDc.weaken (fun _ _ _ _ => trivial)⟩⟩ rfl rfl hl.1 rfl (lv_room (Nat.le_of_ble_eq_true rfl)) dX9_ahead_12 ⟨Nat.le_of_ble_eq_true rfl, Nat.le_of_ble_eq_true rfl⟩) hS (fun q _ h => hFc q h) hFc (fun r_3 _ t H1 locs ht hvm hw hB hz1 hk1 hS => ?_)
    obtain ⟨hP1, hD1⟩ := hB
    rw [ht] at hP1
    obtain ⟨hP, hD⟩ := va_join (wr := [ai G h_less 6 less, ai G h_aside 40 aside, oc h 9 [.ref h_s, .ref h_images, .int kept, .ref h_tape, .int typed, .ref h_draft, .int atv, .ref h_items, .ref h_moved, .ref h_sizes, .ref h_lanes, .ref h_less, .ref h_aside, .ref h_order], ai G h_s 161 sv]) (w1 := []) hP hD [] [0, 1, 2, 3] rfl rfl (by decide) (by decide) hk1 hFc hP1 hD1
    clear hPc hDc hFc hP1 hD1 hz1 hk1 hvm
    generalize H1 = H at hP hS ⊢
    have hP : va_P G.1 gCl [ai G h_less 6 less, ai G h_aside 40 aside, oc h 9 [.ref h_s, .ref h_images, .int kept, .ref h_tape, .int typed, .ref h_draft, .int atv, .ref h_items, .ref h_moved, .ref h_sizes, .ref h_lanes, .ref h_less, .ref h_aside, .ref h_order], ai G h_s 161 sv] H := hP
    have hD : va_D A [ai G h_less 6 less, ai G h_aside 40 aside, oc h 9 [.ref h_s, .ref h_images, .int kept, .ref h_tape, .int typed, .ref h_draft, .int atv, .ref h_items, .ref h_moved, .ref h_sizes, .ref h_lanes, .ref h_less, .ref h_aside, .ref h_order], ai G h_s 161 sv] := hD
    refine lv_if_ne (tgt := 20) hx hb dX9_ahead_15 (by decide) (fun c_4 => ?_) (fun c_4 => ?_)
    · replace hw := hw.1 c_4
      refine lv_aload_n hx hb dX9_ahead_20 rfl (lv_at hl 0 rfl) ?_
      have hPc := hP.sub (ws' := [oc h 9 [.ref h_s, .ref h_images, .int kept, .ref h_tape, .int typed, .ref h_draft, .int atv, .ref h_items, .ref h_moved, .ref h_sizes, .ref h_lanes, .ref h_less, .ref h_aside, .ref h_order], ai G h_s 161 sv, ai G h_aside 40 aside]) [2, 3, 1] rfl
      have hDc := hD.sub (ws' := [oc h 9 [.ref h_s, .ref h_images, .int kept, .ref h_tape, .int typed, .ref h_draft, .int atv, .ref h_items, .ref h_moved, .ref h_sizes, .ref h_lanes, .ref h_less, .ref h_aside, .ref h_order], ai G h_s 161 sv, ai G h_aside 40 aside]) [2, 3, 1] (by decide) rfl
      have hFc := va_free (wc := [oc h 9 [.ref h_s, .ref h_images, .int kept, .ref h_tape, .int typed, .ref h_draft, .int atv, .ref h_items, .ref h_moved, .ref h_sizes, .ref h_lanes, .ref h_less, .ref h_aside, .ref h_order], ai G h_s 161 sv, ai G h_aside 40 aside]) hD hS hA [2, 3, 1] rfl
      refine va_callv (va_runV (As := []) (rest := []) ⟨hx, hb, hml, hown, hts⟩ (mt_X9_holds l G h h_s h_images h_tape h_draft h_items h_moved h_sizes h_lanes h_less h_aside h_order H.size kept typed atv sv aside  _ hw) (cwV 0 hts (lw_V q1010 q1012 qs45 q65 q1013) rfl rfl rfl (by decide +kernel) ⟨Nat.le_of_ble_eq_true rfl, Nat.le_of_ble_eq_true rfl⟩) ⟨fun a U g mk q => by obtain ⟨q0, q1, qP, qK, qD⟩ := q; exact ⟨q0, q1, qP, qK.call, qD⟩, va_recv hK.1 hP (ci := 9) (q0 := 2) rfl rfl, fun U hU hW => ⟨rfl, by rw [hU], by rw [hU]; exact hPc, hK.warm hW, hDc.weaken (fun _ _ _ _ => trivial)⟩⟩ rfl rfl hl.1 rfl (lv_room (Nat.le_of_ble_eq_true rfl)) dX9_ahead_21 ⟨Nat.le_of_ble_eq_true rfl, Nat.le_of_ble_eq_true rfl⟩) hS (fun q _ h => hFc q h) hFc (fun u_5 t H1 locs ht hvm hw hB hz1 hk1 hS => ?_)
      obtain ⟨hP1, hD1⟩ := hB
      rw [ht] at hP1
      obtain ⟨hP, hD⟩ := va_join (wr := [ai G h_less 6 less]) (w1 := [oc h 9 [.ref h_s, .ref h_images, .int kept, .ref h_tape, .int typed, .ref h_draft, .int atv, .ref h_items, .ref h_moved, .ref h_sizes, .ref h_lanes, .ref h_less, .ref h_aside, .ref h_order], ai G h_s 161 sv, ai G h_aside 40 u_5]) hP hD [2, 3, 1] [0] rfl rfl (by decide) (by decide) hk1 hFc hP1 hD1
      clear hPc hDc hFc hP1 hD1 hz1 hk1 hvm
      generalize H1 = H at hP hS ⊢
      have hP : va_P G.1 gCl [ai G h_less 6 less, oc h 9 [.ref h_s, .ref h_images, .int kept, .ref h_tape, .int typed, .ref h_draft, .int atv, .ref h_items, .ref h_moved, .ref h_sizes, .ref h_lanes, .ref h_less, .ref h_aside, .ref h_order], ai G h_s 161 sv, ai G h_aside 40 u_5] H := hP
      have hD : va_D A [ai G h_less 6 less, oc h 9 [.ref h_s, .ref h_images, .int kept, .ref h_tape, .int typed, .ref h_draft, .int atv, .ref h_items, .ref h_moved, .ref h_sizes, .ref h_lanes, .ref h_less, .ref h_aside, .ref h_order], ai G h_s 161 sv, ai G h_aside 40 u_5] := hD
      refine lv_iconst (v := (0 : Int32)) hx hb dX9_ahead_24 (by decide) ?_
      refine lv_istore_n (lv' := [(3, .int (0 : Int32)), (0, .ref h), (1, .int p1), (2, .int p2)]) hx hb dX9_ahead_25 rfl hl (by decide) rfl (fun ls hl => ?_)
      obtain ⟨j_, hw⟩ := hw
      exact wk_X9_ahead_26 h h_s h_images h_tape h_draft h_items h_moved h_sizes h_lanes h_less h_aside h_order kept typed atv p1 p2  Q  C  j_ sv less u_5 (0 : Int32) H locs (hP.sub [1, 2, 0, 3] rfl) (hD.sub [1, 2, 0, 3] (by decide) rfl) hS ls (lv_sub hl [1, 2, 3, 0] rfl) hw
    · replace hw := hw.2 c_4
      refine lv_iconst (v := (-1 : Int32)) hx hb dX9_ahead_18 (by decide) ?_
      have hP9 := hP.sub (ws' := [oc h 9 [.ref h_s, .ref h_images, .int kept, .ref h_tape, .int typed, .ref h_draft, .int atv, .ref h_items, .ref h_moved, .ref h_sizes, .ref h_lanes, .ref h_less, .ref h_aside, .ref h_order], ai G h_s 161 sv, ai G h_less 6 less, ai G h_aside 40 aside]) [2, 3, 0, 1] rfl
      have hD9 := hD.sub (ws' := [oc h 9 [.ref h_s, .ref h_images, .int kept, .ref h_tape, .int typed, .ref h_draft, .int atv, .ref h_items, .ref h_moved, .ref h_sizes, .ref h_lanes, .ref h_less, .ref h_aside, .ref h_order], ai G h_s 161 sv, ai G h_less 6 less, ai G h_aside 40 aside]) [2, 3, 0, 1] (by decide) rfl
      exact W.iret (v := (-1 : Int32)) hx hb hr (fun t ht hW => ⟨⟨(-1 : Int32), (sv, less, aside), rfl, hw, by rw [ht]; exact hP9, hD9⟩, hS.F ht⟩) hS.2.2 dX9_ahead_19
/-! BattleBenchModel.then(I)I -/
def wp_X9_then_18 (p1 : Int32) (Q : Int32 → ((Nat → Int32) × (Nat → Int32) × (Nat → Int32)) → Prop)  : Nat → (Nat → Int32) → (Nat → Int32) → (Nat → Int32) → Int32 → Prop
  | 0, _, _, _, _ => False
  | n + 1, sv, less, aside, x2 =>
    (((p1 ≤ x2) → wp_X9_bench sv  (fun r_2 => wp_X9_lets sv aside  (fun u_3 => Q r_2 (u_3, less, aside)))) ∧ (¬ (p1 ≤ x2) → wp_X9_passes sv less  (fun u_4 => wp_X9_then_18 p1 Q  n u_4.1 u_4.2 aside (x2 + (1 : Int32)))))
set_option maxHeartbeats 4000000 in
theorem wk_X9_then_18 {p : Program} {l : Launch} {e : Env} {s : State} {m : MethodId} {below : List Frame} {meth : Method} {c : Code} {args : Array Value} {G : GT} {A : Nat → Prop} (h h_s h_images h_tape h_draft h_items h_moved h_sizes h_lanes h_less h_aside h_order : Nat) (kept : Int32) (typed : Int32) (atv : Int32) (p1 : Int32) (Q : Int32 → ((Nat → Int32) × (Nat → Int32) × (Nat → Int32)) → Prop)  (C : Cx p s m meth c cX9_then 3 (some .int) RX9 args G A)  :
    ∀ (n : Nat), ∀  (sv : Nat → Int32) (less : Nat → Int32) (aside : Nat → Int32) (x2 : Int32) (H : Heap) (locs : List Loc), va_P G.1 gCl [oc h 9 [.ref h_s, .ref h_images, .int kept, .ref h_tape, .int typed, .ref h_draft, .int atv, .ref h_items, .ref h_moved, .ref h_sizes, .ref h_lanes, .ref h_less, .ref h_aside, .ref h_order], ai G h_s 161 sv, ai G h_less 6 less, ai G h_aside 40 aside] H → va_D A [oc h 9 [.ref h_s, .ref h_images, .int kept, .ref h_tape, .int typed, .ref h_draft, .int atv, .ref h_items, .ref h_moved, .ref h_sizes, .ref h_lanes, .ref h_less, .ref h_aside, .ref h_order], ai G h_s 161 sv, ai G h_less 6 less, ai G h_aside 40 aside] → va_S A s.heap H locs → ∀ (ls : Array Slot), lv_has ls 3 [(0, .ref h), (1, .int p1), (2, .int x2)] → wp_X9_then_18 p1 Q  n sv less aside x2 → W p l e ({ frames := 5, cells := 0, slots := 0, locals := 113 } : Room) s m args below meth c H locs 0 0 (MQ below (va_Qi (fun (r : Int32) (u : (Nat → Int32) × (Nat → Int32) × (Nat → Int32)) => Q r u) (fun u t => va_P G.1 gCl [oc h 9 [.ref h_s, .ref h_images, .int kept, .ref h_tape, .int typed, .ref h_draft, .int atv, .ref h_items, .ref h_moved, .ref h_sizes, .ref h_lanes, .ref h_less, .ref h_aside, .ref h_order], ai G h_s 161 u.1, ai G h_less 6 u.2.1, ai G h_aside 40 u.2.2] t.heap ∧ va_D A [oc h 9 [.ref h_s, .ref h_images, .int kept, .ref h_tape, .int typed, .ref h_draft, .int atv, .ref h_items, .ref h_moved, .ref h_sizes, .ref h_lanes, .ref h_less, .ref h_aside, .ref h_order], ai G h_s 161 u.1, ai G h_less 6 u.2.1, ai G h_aside 40 u.2.2]) A) args s 0 0 A) (F0 m 18 ls []) := by
  have C9 := C
  obtain ⟨hx, hb, hr, hlocks, hml, hown, hts, hK, hA⟩ := C9
  intro n
  induction n with
  | zero => intro sv less aside x2 H locs hP hD hS ls hl hw; exact False.elim hw
  | succ n ih =>
    intro sv less aside x2 H locs hP hD hS ls hl hw
    unfold wp_X9_then_18 at hw
    refine lv_iload_n hx hb dX9_then_18 rfl (lv_at hl 2 rfl) ?_
    refine lv_iload_n hx hb dX9_then_19 rfl (lv_at hl 1 rfl) ?_
    refine lv_icmp_ge (tgt := 33) hx hb dX9_then_20 (by decide) (fun c_1 => ?_) (fun c_1 => ?_)
    · replace hw := hw.1 c_1
      refine lv_aload_n hx hb dX9_then_33 rfl (lv_at hl 0 rfl) ?_
      have hPc := hP.sub (ws' := [oc h 9 [.ref h_s, .ref h_images, .int kept, .ref h_tape, .int typed, .ref h_draft, .int atv, .ref h_items, .ref h_moved, .ref h_sizes, .ref h_lanes, .ref h_less, .ref h_aside, .ref h_order], ai G h_s 161 sv]) [0, 1] rfl
      have hDc := hD.sub (ws' := [oc h 9 [.ref h_s, .ref h_images, .int kept, .ref h_tape, .int typed, .ref h_draft, .int atv, .ref h_items, .ref h_moved, .ref h_sizes, .ref h_lanes, .ref h_less, .ref h_aside, .ref h_order], ai G h_s 161 sv]) [0, 1] (by decide) rfl
      have hFc := va_free (wc := [oc h 9 [.ref h_s, .ref h_images, .int kept, .ref h_tape, .int typed, .ref h_draft, .int atv, .ref h_items, .ref h_moved, .ref h_sizes, .ref h_lanes, .ref h_less, .ref h_aside, .ref h_order], ai G h_s 161 sv]) hD hS hA [0, 1] rfl
      refine va_calli (va_runV (As := []) (rest := []) ⟨hx, hb, hml, hown, hts⟩ (mt_X9_bench l G h h_s h_images h_tape h_draft h_items h_moved h_sizes h_lanes h_less h_aside h_order H.size kept typed atv sv  _ hw) (cwV 0 hts (lw_V q952 q954 qs39 q65 q955) rfl rfl rfl (by decide +kernel) ⟨Nat.le_of_ble_eq_true rfl, Nat.le_of_ble_eq_true rfl⟩) ⟨fun a U g mk q => by obtain ⟨q0, q1, qP, qK, qD⟩ := q; exact ⟨q0, q1, qP, qK.call, qD⟩, va_recv hK.1 hP (ci := 9) (q0 := 0) rfl rfl, fun U hU hW => ⟨rfl, by rw [hU], by rw [hU]; exact hPc, hK.warm hW, hDc.weaken (fun _ _ _ _ => trivial)⟩⟩ rfl rfl hl.1 rfl (lv_room (Nat.le_of_ble_eq_true rfl)) dX9_then_34 ⟨Nat.le_of_ble_eq_true rfl, Nat.le_of_ble_eq_true rfl⟩) hS (fun q _ h => hFc q h) hFc (fun r_2 _ t H1 locs ht hvm hw hB hz1 hk1 hS => ?_)
      obtain ⟨hP1, hD1⟩ := hB
      rw [ht] at hP1
      obtain ⟨hP, hD⟩ := va_join (wr := [ai G h_less 6 less, ai G h_aside 40 aside]) (w1 := [oc h 9 [.ref h_s, .ref h_images, .int kept, .ref h_tape, .int typed, .ref h_draft, .int atv, .ref h_items, .ref h_moved, .ref h_sizes, .ref h_lanes, .ref h_less, .ref h_aside, .ref h_order], ai G h_s 161 sv]) hP hD [0, 1] [2, 3] rfl rfl (by decide) (by decide) hk1 hFc hP1 hD1
      clear hPc hDc hFc hP1 hD1 hz1 hk1 hvm
      generalize H1 = H at hP hS ⊢
      have hP : va_P G.1 gCl [ai G h_less 6 less, ai G h_aside 40 aside, oc h 9 [.ref h_s, .ref h_images, .int kept, .ref h_tape, .int typed, .ref h_draft, .int atv, .ref h_items, .ref h_moved, .ref h_sizes, .ref h_lanes, .ref h_less, .ref h_aside, .ref h_order], ai G h_s 161 sv] H := hP
      have hD : va_D A [ai G h_less 6 less, ai G h_aside 40 aside, oc h 9 [.ref h_s, .ref h_images, .int kept, .ref h_tape, .int typed, .ref h_draft, .int atv, .ref h_items, .ref h_moved, .ref h_sizes, .ref h_lanes, .ref h_less, .ref h_aside, .ref h_order], ai G h_s 161 sv] := hD
      refine lv_istore_n (lv' := [(2, .int r_2), (0, .ref h), (1, .int p1)]) hx hb dX9_then_37 rfl hl (by decide) rfl (fun ls hl => ?_)
      refine lv_aload_n hx hb dX9_then_38 rfl (lv_at hl 1 rfl) ?_
      have hPc := hP.sub (ws' := [oc h 9 [.ref h_s, .ref h_images, .int kept, .ref h_tape, .int typed, .ref h_draft, .int atv, .ref h_items, .ref h_moved, .ref h_sizes, .ref h_lanes, .ref h_less, .ref h_aside, .ref h_order], ai G h_s 161 sv, ai G h_aside 40 aside]) [2, 3, 1] rfl
      have hDc := hD.sub (ws' := [oc h 9 [.ref h_s, .ref h_images, .int kept, .ref h_tape, .int typed, .ref h_draft, .int atv, .ref h_items, .ref h_moved, .ref h_sizes, .ref h_lanes, .ref h_less, .ref h_aside, .ref h_order], ai G h_s 161 sv, ai G h_aside 40 aside]) [2, 3, 1] (by decide) rfl
      have hFc := va_free (wc := [oc h 9 [.ref h_s, .ref h_images, .int kept, .ref h_tape, .int typed, .ref h_draft, .int atv, .ref h_items, .ref h_moved, .ref h_sizes, .ref h_lanes, .ref h_less, .ref h_aside, .ref h_order], ai G h_s 161 sv, ai G h_aside 40 aside]) hD hS hA [2, 3, 1] rfl
      refine va_callv (va_runV (As := []) (rest := []) ⟨hx, hb, hml, hown, hts⟩ (mt_X9_lets l G h h_s h_images h_tape h_draft h_items h_moved h_sizes h_lanes h_less h_aside h_order H.size kept typed atv sv aside  _ hw) (cwV 0 hts (lw_V q1014 q1016 qs46 q65 q1017) rfl rfl rfl (by decide +kernel) ⟨Nat.le_of_ble_eq_true rfl, Nat.le_of_ble_eq_true rfl⟩) ⟨fun a U g mk q => by obtain ⟨q0, q1, qP, qK, qD⟩ := q; exact ⟨q0, q1, qP, qK.call, qD⟩, va_recv hK.1 hP (ci := 9) (q0 := 2) rfl rfl, fun U hU hW => ⟨rfl, by rw [hU], by rw [hU]; exact hPc, hK.warm hW, hDc.weaken (fun _ _ _ _ => trivial)⟩⟩ rfl rfl hl.1 rfl (lv_room (Nat.le_of_ble_eq_true rfl)) dX9_then_39 ⟨Nat.le_of_ble_eq_true rfl, Nat.le_of_ble_eq_true rfl⟩) hS (fun q _ h => hFc q h) hFc (fun u_3 t H1 locs ht hvm hw hB hz1 hk1 hS => ?_)
      obtain ⟨hP1, hD1⟩ := hB
      rw [ht] at hP1
      obtain ⟨hP, hD⟩ := va_join (wr := [ai G h_less 6 less]) (w1 := [oc h 9 [.ref h_s, .ref h_images, .int kept, .ref h_tape, .int typed, .ref h_draft, .int atv, .ref h_items, .ref h_moved, .ref h_sizes, .ref h_lanes, .ref h_less, .ref h_aside, .ref h_order], ai G h_s 161 u_3, ai G h_aside 40 aside]) hP hD [2, 3, 1] [0] rfl rfl (by decide) (by decide) hk1 hFc hP1 hD1
      clear hPc hDc hFc hP1 hD1 hz1 hk1 hvm
      generalize H1 = H at hP hS ⊢
      have hP : va_P G.1 gCl [ai G h_less 6 less, oc h 9 [.ref h_s, .ref h_images, .int kept, .ref h_tape, .int typed, .ref h_draft, .int atv, .ref h_items, .ref h_moved, .ref h_sizes, .ref h_lanes, .ref h_less, .ref h_aside, .ref h_order], ai G h_s 161 u_3, ai G h_aside 40 aside] H := hP
      have hD : va_D A [ai G h_less 6 less, oc h 9 [.ref h_s, .ref h_images, .int kept, .ref h_tape, .int typed, .ref h_draft, .int atv, .ref h_items, .ref h_moved, .ref h_sizes, .ref h_lanes, .ref h_less, .ref h_aside, .ref h_order], ai G h_s 161 u_3, ai G h_aside 40 aside] := hD
      refine lv_iload_n hx hb dX9_then_42 rfl (lv_at hl 0 rfl) ?_
      have hP9 := hP.sub (ws' := [oc h 9 [.ref h_s, .ref h_images, .int kept, .ref h_tape, .int typed, .ref h_draft, .int atv, .ref h_items, .ref h_moved, .ref h_sizes, .ref h_lanes, .ref h_less, .ref h_aside, .ref h_order], ai G h_s 161 u_3, ai G h_less 6 less, ai G h_aside 40 aside]) [1, 2, 0, 3] rfl
      have hD9 := hD.sub (ws' := [oc h 9 [.ref h_s, .ref h_images, .int kept, .ref h_tape, .int typed, .ref h_draft, .int atv, .ref h_items, .ref h_moved, .ref h_sizes, .ref h_lanes, .ref h_less, .ref h_aside, .ref h_order], ai G h_s 161 u_3, ai G h_less 6 less, ai G h_aside 40 aside]) [1, 2, 0, 3] (by decide) rfl
      exact W.iret (v := r_2) hx hb hr (fun t ht hW => ⟨⟨r_2, (u_3, less, aside), rfl, hw, by rw [ht]; exact hP9, hD9⟩, hS.F ht⟩) hS.2.2 dX9_then_43
    · replace hw := hw.2 c_1
      refine lv_aload_n hx hb dX9_then_23 rfl (lv_at hl 0 rfl) ?_
      have hPc := hP.sub (ws' := [oc h 9 [.ref h_s, .ref h_images, .int kept, .ref h_tape, .int typed, .ref h_draft, .int atv, .ref h_items, .ref h_moved, .ref h_sizes, .ref h_lanes, .ref h_less, .ref h_aside, .ref h_order], ai G h_s 161 sv, ai G h_less 6 less]) [0, 1, 2] rfl
      have hDc := hD.sub (ws' := [oc h 9 [.ref h_s, .ref h_images, .int kept, .ref h_tape, .int typed, .ref h_draft, .int atv, .ref h_items, .ref h_moved, .ref h_sizes, .ref h_lanes, .ref h_less, .ref h_aside, .ref h_order], ai G h_s 161 sv, ai G h_less 6 less]) [0, 1, 2] (by decide) rfl
      have hFc := va_free (wc := [oc h 9 [.ref h_s, .ref h_images, .int kept, .ref h_tape, .int typed, .ref h_draft, .int atv, .ref h_items, .ref h_moved, .ref h_sizes, .ref h_lanes, .ref h_less, .ref h_aside, .ref h_order], ai G h_s 161 sv, ai G h_less 6 less]) hD hS hA [0, 1, 2] rfl
      refine va_callv (va_runV (As := []) (rest := []) ⟨hx, hb, hml, hown, hts⟩ (mt_X9_passes l G h h_s h_images h_tape h_draft h_items h_moved h_sizes h_lanes h_less h_aside h_order H.size kept typed atv sv less  _ hw) (cwV 0 hts (lw_V q972 q974 qs43 q65 q975) rfl rfl rfl (by decide +kernel) ⟨Nat.le_of_ble_eq_true rfl, Nat.le_of_ble_eq_true rfl⟩) ⟨fun a U g mk q => by obtain ⟨q0, q1, qP, qK, qD⟩ := q; exact ⟨q0, q1, qP, qK.call, qD⟩, va_recv hK.1 hP (ci := 9) (q0 := 0) rfl rfl, fun U hU hW => ⟨rfl, by rw [hU], by rw [hU]; exact hPc, hK.warm hW, hDc.weaken (fun _ _ _ _ => trivial)⟩⟩ rfl rfl hl.1 rfl (lv_room (Nat.le_of_ble_eq_true rfl)) dX9_then_24 ⟨Nat.le_of_ble_eq_true rfl, Nat.le_of_ble_eq_true rfl⟩) hS (fun q _ h => hFc q h) hFc (fun u_4 t H1 locs ht hvm hw hB hz1 hk1 hS => ?_)
      obtain ⟨hP1, hD1⟩ := hB
      rw [ht] at hP1
      obtain ⟨hP, hD⟩ := va_join (wr := [ai G h_aside 40 aside]) (w1 := [oc h 9 [.ref h_s, .ref h_images, .int kept, .ref h_tape, .int typed, .ref h_draft, .int atv, .ref h_items, .ref h_moved, .ref h_sizes, .ref h_lanes, .ref h_less, .ref h_aside, .ref h_order], ai G h_s 161 u_4.1, ai G h_less 6 u_4.2]) hP hD [0, 1, 2] [3] rfl rfl (by decide) (by decide) hk1 hFc hP1 hD1
      clear hPc hDc hFc hP1 hD1 hz1 hk1 hvm
      generalize H1 = H at hP hS ⊢
      have hP : va_P G.1 gCl [ai G h_aside 40 aside, oc h 9 [.ref h_s, .ref h_images, .int kept, .ref h_tape, .int typed, .ref h_draft, .int atv, .ref h_items, .ref h_moved, .ref h_sizes, .ref h_lanes, .ref h_less, .ref h_aside, .ref h_order], ai G h_s 161 u_4.1, ai G h_less 6 u_4.2] H := hP
      have hD : va_D A [ai G h_aside 40 aside, oc h 9 [.ref h_s, .ref h_images, .int kept, .ref h_tape, .int typed, .ref h_draft, .int atv, .ref h_items, .ref h_moved, .ref h_sizes, .ref h_lanes, .ref h_less, .ref h_aside, .ref h_order], ai G h_s 161 u_4.1, ai G h_less 6 u_4.2] := hD
      refine lv_iinc (v := (x2 + (1 : Int32))) (lv' := [(2, .int (x2 + (1 : Int32))), (0, .ref h), (1, .int p1)]) hx hb dX9_then_27 hl (k := 2) rfl rfl (by decide) rfl (fun ls hl => ?_)
      refine lv_goto (tgt := 18) hx hb dX9_then_30 (by decide) ?_
      exact ih u_4.1 u_4.2 aside (x2 + (1 : Int32)) H locs (hP.sub [1, 2, 3, 0] rfl) (hD.sub [1, 2, 3, 0] (by decide) rfl) hS ls (lv_sub hl [1, 2, 0] rfl) hw
def wp_X9_then (sv : Nat → Int32) (less : Nat → Int32) (aside : Nat → Int32) (p1 : Int32) (Q : Int32 → ((Nat → Int32) × (Nat → Int32) × (Nat → Int32)) → Prop) : Prop :=
  wp_X9_in  p1 (0 : Int32) (60 : Int32) (fun r_1 => ((¬ (r_1 = 0) → wp_X9_holds sv aside  (fun u_3 => (∃ j_ : Nat, wp_X9_then_18 p1 Q  j_ sv less u_3 (0 : Int32)))) ∧ ((r_1 = 0) → Q (-1 : Int32) (sv, less, aside))))
set_option maxHeartbeats 4000000 in
theorem mt_X9_then (l : Launch) (G : GT) (h h_s h_images h_tape h_draft h_items h_moved h_sizes h_lanes h_less h_aside h_order : Nat) (sz : Nat) (kept : Int32) (typed : Int32) (atv : Int32) (sv : Nat → Int32) (less : Nat → Int32) (aside : Nat → Int32) (p1 : Int32) (Q : Int32 → ((Nat → Int32) × (Nat → Int32) × (Nat → Int32)) → Prop) (hw : wp_X9_then sv less aside p1 Q) : Met l yX9_then (ws_ yX9_then cX9_then 3 (some .int)) ({ frames := 5, cells := 0, slots := 0, locals := 113 } : Room) (va_Pc [.ref h, .int p1] (fun U => U.heap.size = sz ∧ va_P G.1 gCl [oc h 9 [.ref h_s, .ref h_images, .int kept, .ref h_tape, .int typed, .ref h_draft, .int atv, .ref h_items, .ref h_moved, .ref h_sizes, .ref h_lanes, .ref h_less, .ref h_aside, .ref h_order], ai G h_s 161 sv, ai G h_less 6 less, ai G h_aside 40 aside] U.heap ∧ gK G U ∧ va_D (fun _ => True) [oc h 9 [.ref h_s, .ref h_images, .int kept, .ref h_tape, .int typed, .ref h_draft, .int atv, .ref h_items, .ref h_moved, .ref h_sizes, .ref h_lanes, .ref h_less, .ref h_aside, .ref h_order], ai G h_s 161 sv, ai G h_less 6 less, ai G h_aside 40 aside])) ((fun A => (va_Qi (fun (r : Int32) (u : (Nat → Int32) × (Nat → Int32) × (Nat → Int32)) => Q r u) (fun u t => va_P G.1 gCl [oc h 9 [.ref h_s, .ref h_images, .int kept, .ref h_tape, .int typed, .ref h_draft, .int atv, .ref h_items, .ref h_moved, .ref h_sizes, .ref h_lanes, .ref h_less, .ref h_aside, .ref h_order], ai G h_s 161 u.1, ai G h_less 6 u.2.1, ai G h_aside 40 u.2.2] t.heap ∧ va_D A [oc h 9 [.ref h_s, .ref h_images, .int kept, .ref h_tape, .int typed, .ref h_draft, .int atv, .ref h_items, .ref h_moved, .ref h_sizes, .ref h_lanes, .ref h_less, .ref h_aside, .ref h_order], ai G h_s 161 u.1, ai G h_less 6 u.2.1, ai G h_aside 40 u.2.2]) A)) (va_A [oc h 9 [.ref h_s, .ref h_images, .int kept, .ref h_tape, .int typed, .ref h_draft, .int atv, .ref h_items, .ref h_moved, .ref h_sizes, .ref h_lanes, .ref h_less, .ref h_aside, .ref h_order], ai G h_s 161 sv, ai G h_less 6 less, ai G h_aside 40 aside] sz)) 0 0 (va_A [oc h 9 [.ref h_s, .ref h_images, .int kept, .ref h_tape, .int typed, .ref h_draft, .int atv, .ref h_items, .ref h_moved, .ref h_sizes, .ref h_lanes, .ref h_less, .ref h_aside, .ref h_order], ai G h_s 161 sv, ai G h_less 6 less, ai G h_aside 40 aside] sz) := by
  refine Met.ofW (cc := cX9_then) (maxL := 3) (ret := (some .int)) (by decide) rfl ?_
  intro p e s m args below meth c s₁ B hml hv
  obtain ⟨rfl, hsz, hP, hK, hD0⟩ := hv
  have hx := B.exec
  have hb := B.bytes
  have hr := B.returns
  have hts := atoms_spec (ws := (ws_ yX9_then cX9_then 3 (some .int))) B.pre
  have hts : ∀ w ∈ lw_all, w.before _ s = true := fun w h => hts w (List.mem_cons_of_mem _ h)
  have hown : s.vm.findClass RX9 = some m.cls := findClass_of_methodNamed B.named
  have hlocks := B.notSynchronized
  subst hsz
  have hD := hD0.self (sz := s.heap.size)
  generalize hAe : va_A [oc h 9 [.ref h_s, .ref h_images, .int kept, .ref h_tape, .int typed, .ref h_draft, .int atv, .ref h_items, .ref h_moved, .ref h_sizes, .ref h_lanes, .ref h_less, .ref h_aside, .ref h_order], ai G h_s 161 sv, ai G h_less 6 less, ai G h_aside 40 aside] s.heap.size = A at hD ⊢
  have hA : ∀ q : Nat, s.heap.size ≤ q → A q := fun q h => by rw [← hAe]; exact Or.inr h
  have hS : va_S A s.heap s.heap [] := va_S.rf
  have C : Cx p s m meth c cX9_then 3 (some .int) RX9 ([.ref h, .int p1] : List Value).toArray G A := ⟨hx, hb, hr, hlocks, hml, hown, hts, hK, hA⟩
  have hl := lv_entry ([.ref h, .int p1]) (n := 3) (Nat.le_of_ble_eq_true rfl)
  rw [lg_entry_eq]
  generalize (lg_sl ([.ref h, .int p1]) ++ List.replicate (3 - (lg_sl ([.ref h, .int p1])).length) Slot.unset).toArray = ls at hl ⊢
  have hl : lv_has ls 3 [(0, .ref h), (1, .int p1)] := hl
  unfold wp_X9_then at hw
  refine lv_iload_n hx hb dX9_then_0 rfl (lv_at hl 1 rfl) ?_
  refine lv_iconst (v := (0 : Int32)) hx hb dX9_then_1 (by decide) ?_
  refine lv_bipush (v := (60 : Int32)) hx hb dX9_then_2 (by decide) ?_
  have hPc := hP.sub (ws' := []) [] rfl
  have hDc := hD.sub (ws' := []) [] (by decide) rfl
  have hFc := va_free (wc := []) hD hS hA [] rfl
  refine va_calli (va_runS (As := [.int p1, .int (0 : Int32), .int (60 : Int32)]) (rest := []) ⟨hx, hb, hml, hown, hts⟩ (mt_X9_in l G  s.heap.size  p1 (0 : Int32) (60 : Int32) _ hw) (va_cwS 3 hts (lw_S q864 q865 q65 q866) rfl rfl rfl (by decide +kernel) ⟨Nat.le_of_ble_eq_true rfl, Nat.le_of_ble_eq_true rfl⟩) ⟨fun a U g mk q => by obtain ⟨q0, q1, qP, qK, qD⟩ := q; exact ⟨q0, q1, qP, qK.call, qD⟩, fun U hU hW => ⟨rfl, by rw [hU], by rw [hU]; exact hPc, hK.warm hW, hDc.weaken (fun _ _ _ _ => trivial)⟩⟩ rfl rfl hl.1 rfl (lv_room (Nat.le_of_ble_eq_true rfl)) dX9_then_4 ⟨Nat.le_of_ble_eq_true rfl, Nat.le_of_ble_eq_true rfl⟩) hS (fun q _ h => hFc q h) hFc (fun r_1 _ t H1 locs ht hvm hw hB hz1 hk1 hS => ?_)
  obtain ⟨hP1, hD1⟩ := hB
  rw [ht] at hP1
  obtain ⟨hP, hD⟩ := va_join (wr := [oc h 9 [.ref h_s, .ref h_images, .int kept, .ref h_tape, .int typed, .ref h_draft, .int atv, .ref h_items, .ref h_moved, .ref h_sizes, .ref h_lanes, .ref h_less, .ref h_aside, .ref h_order], ai G h_s 161 sv, ai G h_less 6 less, ai G h_aside 40 aside]) (w1 := []) hP hD [] [0, 1, 2, 3] rfl rfl (by decide) (by decide) hk1 hFc hP1 hD1
  clear hPc hDc hFc hP1 hD1 hz1 hk1 hvm
  generalize H1 = H at hP hS ⊢
  have hP : va_P G.1 gCl [oc h 9 [.ref h_s, .ref h_images, .int kept, .ref h_tape, .int typed, .ref h_draft, .int atv, .ref h_items, .ref h_moved, .ref h_sizes, .ref h_lanes, .ref h_less, .ref h_aside, .ref h_order], ai G h_s 161 sv, ai G h_less 6 less, ai G h_aside 40 aside] H := hP
  have hD : va_D A [oc h 9 [.ref h_s, .ref h_images, .int kept, .ref h_tape, .int typed, .ref h_draft, .int atv, .ref h_items, .ref h_moved, .ref h_sizes, .ref h_lanes, .ref h_less, .ref h_aside, .ref h_order], ai G h_s 161 sv, ai G h_less 6 less, ai G h_aside 40 aside] := hD
  refine lv_if_ne (tgt := 12) hx hb dX9_then_7 (by decide) (fun c_2 => ?_) (fun c_2 => ?_)
  · replace hw := hw.1 c_2
    refine lv_aload_n hx hb dX9_then_12 rfl (lv_at hl 0 rfl) ?_
    have hPc := hP.sub (ws' := [oc h 9 [.ref h_s, .ref h_images, .int kept, .ref h_tape, .int typed, .ref h_draft, .int atv, .ref h_items, .ref h_moved, .ref h_sizes, .ref h_lanes, .ref h_less, .ref h_aside, .ref h_order], ai G h_s 161 sv, ai G h_aside 40 aside]) [0, 1, 3] rfl
    have hDc := hD.sub (ws' := [oc h 9 [.ref h_s, .ref h_images, .int kept, .ref h_tape, .int typed, .ref h_draft, .int atv, .ref h_items, .ref h_moved, .ref h_sizes, .ref h_lanes, .ref h_less, .ref h_aside, .ref h_order], ai G h_s 161 sv, ai G h_aside 40 aside]) [0, 1, 3] (by decide) rfl
    have hFc := va_free (wc := [oc h 9 [.ref h_s, .ref h_images, .int kept, .ref h_tape, .int typed, .ref h_draft, .int atv, .ref h_items, .ref h_moved, .ref h_sizes, .ref h_lanes, .ref h_less, .ref h_aside, .ref h_order], ai G h_s 161 sv, ai G h_aside 40 aside]) hD hS hA [0, 1, 3] rfl
    refine va_callv (va_runV (As := []) (rest := []) ⟨hx, hb, hml, hown, hts⟩ (mt_X9_holds l G h h_s h_images h_tape h_draft h_items h_moved h_sizes h_lanes h_less h_aside h_order H.size kept typed atv sv aside  _ hw) (cwV 0 hts (lw_V q1010 q1012 qs45 q65 q1013) rfl rfl rfl (by decide +kernel) ⟨Nat.le_of_ble_eq_true rfl, Nat.le_of_ble_eq_true rfl⟩) ⟨fun a U g mk q => by obtain ⟨q0, q1, qP, qK, qD⟩ := q; exact ⟨q0, q1, qP, qK.call, qD⟩, va_recv hK.1 hP (ci := 9) (q0 := 0) rfl rfl, fun U hU hW => ⟨rfl, by rw [hU], by rw [hU]; exact hPc, hK.warm hW, hDc.weaken (fun _ _ _ _ => trivial)⟩⟩ rfl rfl hl.1 rfl (lv_room (Nat.le_of_ble_eq_true rfl)) dX9_then_13 ⟨Nat.le_of_ble_eq_true rfl, Nat.le_of_ble_eq_true rfl⟩) hS (fun q _ h => hFc q h) hFc (fun u_3 t H1 locs ht hvm hw hB hz1 hk1 hS => ?_)
    obtain ⟨hP1, hD1⟩ := hB
    rw [ht] at hP1
    obtain ⟨hP, hD⟩ := va_join (wr := [ai G h_less 6 less]) (w1 := [oc h 9 [.ref h_s, .ref h_images, .int kept, .ref h_tape, .int typed, .ref h_draft, .int atv, .ref h_items, .ref h_moved, .ref h_sizes, .ref h_lanes, .ref h_less, .ref h_aside, .ref h_order], ai G h_s 161 sv, ai G h_aside 40 u_3]) hP hD [0, 1, 3] [2] rfl rfl (by decide) (by decide) hk1 hFc hP1 hD1
    clear hPc hDc hFc hP1 hD1 hz1 hk1 hvm
    generalize H1 = H at hP hS ⊢
    have hP : va_P G.1 gCl [ai G h_less 6 less, oc h 9 [.ref h_s, .ref h_images, .int kept, .ref h_tape, .int typed, .ref h_draft, .int atv, .ref h_items, .ref h_moved, .ref h_sizes, .ref h_lanes, .ref h_less, .ref h_aside, .ref h_order], ai G h_s 161 sv, ai G h_aside 40 u_3] H := hP
    have hD : va_D A [ai G h_less 6 less, oc h 9 [.ref h_s, .ref h_images, .int kept, .ref h_tape, .int typed, .ref h_draft, .int atv, .ref h_items, .ref h_moved, .ref h_sizes, .ref h_lanes, .ref h_less, .ref h_aside, .ref h_order], ai G h_s 161 sv, ai G h_aside 40 u_3] := hD
    refine lv_iconst (v := (0 : Int32)) hx hb dX9_then_16 (by decide) ?_
    refine lv_istore_n (lv' := [(2, .int (0 : Int32)), (0, .ref h), (1, .int p1)]) hx hb dX9_then_17 rfl hl (by decide) rfl (fun ls hl => ?_)
    obtain ⟨j_, hw⟩ := hw
    exact wk_X9_then_18 h h_s h_images h_tape h_draft h_items h_moved h_sizes h_lanes h_less h_aside h_order kept typed atv p1  Q  C  j_ sv less u_3 (0 : Int32) H locs (hP.sub [1, 2, 0, 3] rfl) (hD.sub [1, 2, 0, 3] (by decide) rfl) hS ls (lv_sub hl [1, 2, 0] rfl) hw
  · replace hw := hw.2 c_2
    refine lv_iconst (v := (-1 : Int32)) hx hb dX9_then_10 (by decide) ?_
    have hP9 := hP
    have hD9 := hD
    exact W.iret (v := (-1 : Int32)) hx hb hr (fun t ht hW => ⟨⟨(-1 : Int32), (sv, less, aside), rfl, hw, by rw [ht]; exact hP9, hD9⟩, hS.F ht⟩) hS.2.2 dX9_then_11
/-! BattleBenchModel.ends(I)I -/
def wp_X9_ends_16 (p1 : Int32) (Q : Int32 → ((Nat → Int32) × (Nat → Int32) × (Nat → Int32)) → Prop)  : Nat → (Nat → Int32) → (Nat → Int32) → (Nat → Int32) → Int32 → Prop
  | 0, _, _, _, _ => False
  | n + 1, sv, less, aside, x2 =>
    ((((60 : Int32) < x2) → wp_X9_lets sv aside  (fun u_2 => (((x2 ≤ (60 : Int32)) → Q x2 (u_2, less, aside)) ∧ (¬ (x2 ≤ (60 : Int32)) → Q (-4 : Int32) (u_2, less, aside))))) ∧ (¬ ((60 : Int32) < x2) → wp_X9_seatOf sv p1 (fun r_4 => (((r_4 = (-4 : Int32)) → wp_X9_lets sv aside  (fun u_6 => (((x2 ≤ (60 : Int32)) → Q x2 (u_6, less, aside)) ∧ (¬ (x2 ≤ (60 : Int32)) → Q (-4 : Int32) (u_6, less, aside))))) ∧ (¬ (r_4 = (-4 : Int32)) → wp_X9_passes sv less  (fun u_8 => wp_X9_ends_16 p1 Q  n u_8.1 u_8.2 aside (x2 + (1 : Int32))))))))
set_option maxHeartbeats 4000000 in
theorem wk_X9_ends_16 {p : Program} {l : Launch} {e : Env} {s : State} {m : MethodId} {below : List Frame} {meth : Method} {c : Code} {args : Array Value} {G : GT} {A : Nat → Prop} (h h_s h_images h_tape h_draft h_items h_moved h_sizes h_lanes h_less h_aside h_order : Nat) (kept : Int32) (typed : Int32) (atv : Int32) (p1 : Int32) (Q : Int32 → ((Nat → Int32) × (Nat → Int32) × (Nat → Int32)) → Prop)  (C : Cx p s m meth c cX9_ends 3 (some .int) RX9 args G A)  :
    ∀ (n : Nat), ∀  (sv : Nat → Int32) (less : Nat → Int32) (aside : Nat → Int32) (x2 : Int32) (H : Heap) (locs : List Loc), va_P G.1 gCl [oc h 9 [.ref h_s, .ref h_images, .int kept, .ref h_tape, .int typed, .ref h_draft, .int atv, .ref h_items, .ref h_moved, .ref h_sizes, .ref h_lanes, .ref h_less, .ref h_aside, .ref h_order], ai G h_s 161 sv, ai G h_less 6 less, ai G h_aside 40 aside] H → va_D A [oc h 9 [.ref h_s, .ref h_images, .int kept, .ref h_tape, .int typed, .ref h_draft, .int atv, .ref h_items, .ref h_moved, .ref h_sizes, .ref h_lanes, .ref h_less, .ref h_aside, .ref h_order], ai G h_s 161 sv, ai G h_less 6 less, ai G h_aside 40 aside] → va_S A s.heap H locs → ∀ (ls : Array Slot), lv_has ls 3 [(0, .ref h), (1, .int p1), (2, .int x2)] → wp_X9_ends_16 p1 Q  n sv less aside x2 → W p l e ({ frames := 5, cells := 0, slots := 0, locals := 113 } : Room) s m args below meth c H locs 0 0 (MQ below (va_Qi (fun (r : Int32) (u : (Nat → Int32) × (Nat → Int32) × (Nat → Int32)) => Q r u) (fun u t => va_P G.1 gCl [oc h 9 [.ref h_s, .ref h_images, .int kept, .ref h_tape, .int typed, .ref h_draft, .int atv, .ref h_items, .ref h_moved, .ref h_sizes, .ref h_lanes, .ref h_less, .ref h_aside, .ref h_order], ai G h_s 161 u.1, ai G h_less 6 u.2.1, ai G h_aside 40 u.2.2] t.heap ∧ va_D A [oc h 9 [.ref h_s, .ref h_images, .int kept, .ref h_tape, .int typed, .ref h_draft, .int atv, .ref h_items, .ref h_moved, .ref h_sizes, .ref h_lanes, .ref h_less, .ref h_aside, .ref h_order], ai G h_s 161 u.1, ai G h_less 6 u.2.1, ai G h_aside 40 u.2.2]) A) args s 0 0 A) (F0 m 16 ls []) := by
  have C9 := C
  obtain ⟨hx, hb, hr, hlocks, hml, hown, hts, hK, hA⟩ := C9
  intro n
  induction n with
  | zero => intro sv less aside x2 H locs hP hD hS ls hl hw; exact False.elim hw
  | succ n ih =>
    intro sv less aside x2 H locs hP hD hS ls hl hw
    unfold wp_X9_ends_16 at hw
    refine lv_iload_n hx hb dX9_ends_16 rfl (lv_at hl 2 rfl) ?_
    refine lv_bipush (v := (60 : Int32)) hx hb dX9_ends_17 (by decide) ?_
    refine lv_icmp_gt (tgt := 42) hx hb dX9_ends_19 (by decide) (fun c_1 => ?_) (fun c_1 => ?_)
    · replace hw := hw.1 c_1
      refine lv_aload_n hx hb dX9_ends_42 rfl (lv_at hl 0 rfl) ?_
      have hPc := hP.sub (ws' := [oc h 9 [.ref h_s, .ref h_images, .int kept, .ref h_tape, .int typed, .ref h_draft, .int atv, .ref h_items, .ref h_moved, .ref h_sizes, .ref h_lanes, .ref h_less, .ref h_aside, .ref h_order], ai G h_s 161 sv, ai G h_aside 40 aside]) [0, 1, 3] rfl
      have hDc := hD.sub (ws' := [oc h 9 [.ref h_s, .ref h_images, .int kept, .ref h_tape, .int typed, .ref h_draft, .int atv, .ref h_items, .ref h_moved, .ref h_sizes, .ref h_lanes, .ref h_less, .ref h_aside, .ref h_order], ai G h_s 161 sv, ai G h_aside 40 aside]) [0, 1, 3] (by decide) rfl
      have hFc := va_free (wc := [oc h 9 [.ref h_s, .ref h_images, .int kept, .ref h_tape, .int typed, .ref h_draft, .int atv, .ref h_items, .ref h_moved, .ref h_sizes, .ref h_lanes, .ref h_less, .ref h_aside, .ref h_order], ai G h_s 161 sv, ai G h_aside 40 aside]) hD hS hA [0, 1, 3] rfl
      refine va_callv (va_runV (As := []) (rest := []) ⟨hx, hb, hml, hown, hts⟩ (mt_X9_lets l G h h_s h_images h_tape h_draft h_items h_moved h_sizes h_lanes h_less h_aside h_order H.size kept typed atv sv aside  _ hw) (cwV 0 hts (lw_V q1014 q1016 qs46 q65 q1017) rfl rfl rfl (by decide +kernel) ⟨Nat.le_of_ble_eq_true rfl, Nat.le_of_ble_eq_true rfl⟩) ⟨fun a U g mk q => by obtain ⟨q0, q1, qP, qK, qD⟩ := q; exact ⟨q0, q1, qP, qK.call, qD⟩, va_recv hK.1 hP (ci := 9) (q0 := 0) rfl rfl, fun U hU hW => ⟨rfl, by rw [hU], by rw [hU]; exact hPc, hK.warm hW, hDc.weaken (fun _ _ _ _ => trivial)⟩⟩ rfl rfl hl.1 rfl (lv_room (Nat.le_of_ble_eq_true rfl)) dX9_ends_43 ⟨Nat.le_of_ble_eq_true rfl, Nat.le_of_ble_eq_true rfl⟩) hS (fun q _ h => hFc q h) hFc (fun u_2 t H1 locs ht hvm hw hB hz1 hk1 hS => ?_)
      obtain ⟨hP1, hD1⟩ := hB
      rw [ht] at hP1
      obtain ⟨hP, hD⟩ := va_join (wr := [ai G h_less 6 less]) (w1 := [oc h 9 [.ref h_s, .ref h_images, .int kept, .ref h_tape, .int typed, .ref h_draft, .int atv, .ref h_items, .ref h_moved, .ref h_sizes, .ref h_lanes, .ref h_less, .ref h_aside, .ref h_order], ai G h_s 161 u_2, ai G h_aside 40 aside]) hP hD [0, 1, 3] [2] rfl rfl (by decide) (by decide) hk1 hFc hP1 hD1
      clear hPc hDc hFc hP1 hD1 hz1 hk1 hvm
      generalize H1 = H at hP hS ⊢
      have hP : va_P G.1 gCl [ai G h_less 6 less, oc h 9 [.ref h_s, .ref h_images, .int kept, .ref h_tape, .int typed, .ref h_draft, .int atv, .ref h_items, .ref h_moved, .ref h_sizes, .ref h_lanes, .ref h_less, .ref h_aside, .ref h_order], ai G h_s 161 u_2, ai G h_aside 40 aside] H := hP
      have hD : va_D A [ai G h_less 6 less, oc h 9 [.ref h_s, .ref h_images, .int kept, .ref h_tape, .int typed, .ref h_draft, .int atv, .ref h_items, .ref h_moved, .ref h_sizes, .ref h_lanes, .ref h_less, .ref h_aside, .ref h_order], ai G h_s 161 u_2, ai G h_aside 40 aside] := hD
      refine lv_iload_n hx hb dX9_ends_46 rfl (lv_at hl 2 rfl) ?_
      refine lv_bipush (v := (60 : Int32)) hx hb dX9_ends_47 (by decide) ?_
      refine lv_icmp_le (tgt := 57) hx hb dX9_ends_49 (by decide) (fun c_3 => ?_) (fun c_3 => ?_)
      · replace hw := hw.1 c_3
        refine lv_iload_n hx hb dX9_ends_57 rfl (lv_at hl 2 rfl) ?_
        have hP9 := hP.sub (ws' := [oc h 9 [.ref h_s, .ref h_images, .int kept, .ref h_tape, .int typed, .ref h_draft, .int atv, .ref h_items, .ref h_moved, .ref h_sizes, .ref h_lanes, .ref h_less, .ref h_aside, .ref h_order], ai G h_s 161 u_2, ai G h_less 6 less, ai G h_aside 40 aside]) [1, 2, 0, 3] rfl
        have hD9 := hD.sub (ws' := [oc h 9 [.ref h_s, .ref h_images, .int kept, .ref h_tape, .int typed, .ref h_draft, .int atv, .ref h_items, .ref h_moved, .ref h_sizes, .ref h_lanes, .ref h_less, .ref h_aside, .ref h_order], ai G h_s 161 u_2, ai G h_less 6 less, ai G h_aside 40 aside]) [1, 2, 0, 3] (by decide) rfl
        exact W.iret (v := x2) hx hb hr (fun t ht hW => ⟨⟨x2, (u_2, less, aside), rfl, hw, by rw [ht]; exact hP9, hD9⟩, hS.F ht⟩) hS.2.2 dX9_ends_58
      · replace hw := hw.2 c_3
        refine lv_bipush (v := (-4 : Int32)) hx hb dX9_ends_52 (by decide) ?_
        refine lv_goto (tgt := 58) hx hb dX9_ends_54 (by decide) ?_
        have hP9 := hP.sub (ws' := [oc h 9 [.ref h_s, .ref h_images, .int kept, .ref h_tape, .int typed, .ref h_draft, .int atv, .ref h_items, .ref h_moved, .ref h_sizes, .ref h_lanes, .ref h_less, .ref h_aside, .ref h_order], ai G h_s 161 u_2, ai G h_less 6 less, ai G h_aside 40 aside]) [1, 2, 0, 3] rfl
        have hD9 := hD.sub (ws' := [oc h 9 [.ref h_s, .ref h_images, .int kept, .ref h_tape, .int typed, .ref h_draft, .int atv, .ref h_items, .ref h_moved, .ref h_sizes, .ref h_lanes, .ref h_less, .ref h_aside, .ref h_order], ai G h_s 161 u_2, ai G h_less 6 less, ai G h_aside 40 aside]) [1, 2, 0, 3] (by decide) rfl
        exact W.iret (v := (-4 : Int32)) hx hb hr (fun t ht hW => ⟨⟨(-4 : Int32), (u_2, less, aside), rfl, hw, by rw [ht]; exact hP9, hD9⟩, hS.F ht⟩) hS.2.2 dX9_ends_58
    · replace hw := hw.2 c_1
      refine lv_aload_n hx hb dX9_ends_22 rfl (lv_at hl 0 rfl) ?_
      refine lv_iload_n hx hb dX9_ends_23 rfl (lv_at hl 1 rfl) ?_
      have hPc := hP.sub (ws' := [oc h 9 [.ref h_s, .ref h_images, .int kept, .ref h_tape, .int typed, .ref h_draft, .int atv, .ref h_items, .ref h_moved, .ref h_sizes, .ref h_lanes, .ref h_less, .ref h_aside, .ref h_order], ai G h_s 161 sv]) [0, 1] rfl
      have hDc := hD.sub (ws' := [oc h 9 [.ref h_s, .ref h_images, .int kept, .ref h_tape, .int typed, .ref h_draft, .int atv, .ref h_items, .ref h_moved, .ref h_sizes, .ref h_lanes, .ref h_less, .ref h_aside, .ref h_order], ai G h_s 161 sv]) [0, 1] (by decide) rfl
      have hFc := va_free (wc := [oc h 9 [.ref h_s, .ref h_images, .int kept, .ref h_tape, .int typed, .ref h_draft, .int atv, .ref h_items, .ref h_moved, .ref h_sizes, .ref h_lanes, .ref h_less, .ref h_aside, .ref h_order], ai G h_s 161 sv]) hD hS hA [0, 1] rfl
      refine va_calli (va_runV (As := [.int p1]) (rest := []) ⟨hx, hb, hml, hown, hts⟩ (mt_X9_seatOf l G h h_s h_images h_tape h_draft h_items h_moved h_sizes h_lanes h_less h_aside h_order H.size kept typed atv sv p1 _ hw) (cwV 1 hts (lw_V q883 q885 qs28 q65 q886) rfl rfl rfl (by decide +kernel) ⟨Nat.le_of_ble_eq_true rfl, Nat.le_of_ble_eq_true rfl⟩) ⟨fun a U g mk q => by obtain ⟨q0, q1, qP, qK, qD⟩ := q; exact ⟨q0, q1, qP, qK.call, qD⟩, va_recv hK.1 hP (ci := 9) (q0 := 0) rfl rfl, fun U hU hW => ⟨rfl, by rw [hU], by rw [hU]; exact hPc, hK.warm hW, hDc.weaken (fun _ _ _ _ => trivial)⟩⟩ rfl rfl hl.1 rfl (lv_room (Nat.le_of_ble_eq_true rfl)) dX9_ends_24 ⟨Nat.le_of_ble_eq_true rfl, Nat.le_of_ble_eq_true rfl⟩) hS (fun q _ h => hFc q h) hFc (fun r_4 _ t H1 locs ht hvm hw hB hz1 hk1 hS => ?_)
      obtain ⟨hP1, hD1⟩ := hB
      rw [ht] at hP1
      obtain ⟨hP, hD⟩ := va_join (wr := [ai G h_less 6 less, ai G h_aside 40 aside]) (w1 := [oc h 9 [.ref h_s, .ref h_images, .int kept, .ref h_tape, .int typed, .ref h_draft, .int atv, .ref h_items, .ref h_moved, .ref h_sizes, .ref h_lanes, .ref h_less, .ref h_aside, .ref h_order], ai G h_s 161 sv]) hP hD [0, 1] [2, 3] rfl rfl (by decide) (by decide) hk1 hFc hP1 hD1
      clear hPc hDc hFc hP1 hD1 hz1 hk1 hvm
      generalize H1 = H at hP hS ⊢
      have hP : va_P G.1 gCl [ai G h_less 6 less, ai G h_aside 40 aside, oc h 9 [.ref h_s, .ref h_images, .int kept, .ref h_tape, .int typed, .ref h_draft, .int atv, .ref h_items, .ref h_moved, .ref h_sizes, .ref h_lanes, .ref h_less, .ref h_aside, .ref h_order], ai G h_s 161 sv] H := hP
      have hD : va_D A [ai G h_less 6 less, ai G h_aside 40 aside, oc h 9 [.ref h_s, .ref h_images, .int kept, .ref h_tape, .int typed, .ref h_draft, .int atv, .ref h_items, .ref h_moved, .ref h_sizes, .ref h_lanes, .ref h_less, .ref h_aside, .ref h_order], ai G h_s 161 sv] := hD
      refine lv_bipush (v := (-4 : Int32)) hx hb dX9_ends_27 (by decide) ?_
      refine lv_icmp_eq (tgt := 42) hx hb dX9_ends_29 (by decide) (fun c_5 => ?_) (fun c_5 => ?_)
      · replace hw := hw.1 c_5
        refine lv_aload_n hx hb dX9_ends_42 rfl (lv_at hl 0 rfl) ?_
        have hPc := hP.sub (ws' := [oc h 9 [.ref h_s, .ref h_images, .int kept, .ref h_tape, .int typed, .ref h_draft, .int atv, .ref h_items, .ref h_moved, .ref h_sizes, .ref h_lanes, .ref h_less, .ref h_aside, .ref h_order], ai G h_s 161 sv, ai G h_aside 40 aside]) [2, 3, 1] rfl
        have hDc := hD.sub (ws' := [oc h 9 [.ref h_s, .ref h_images, .int kept, .ref h_tape, .int typed, .ref h_draft, .int atv, .ref h_items, .ref h_moved, .ref h_sizes, .ref h_lanes, .ref h_less, .ref h_aside, .ref h_order], ai G h_s 161 sv, ai G h_aside 40 aside]) [2, 3, 1] (by decide) rfl
        have hFc := va_free (wc := [oc h 9 [.ref h_s, .ref h_images, .int kept, .ref h_tape, .int typed, .ref h_draft, .int atv, .ref h_items, .ref h_moved, .ref h_sizes, .ref h_lanes, .ref h_less, .ref h_aside, .ref h_order], ai G h_s 161 sv, ai G h_aside 40 aside]) hD hS hA [2, 3, 1] rfl
        refine va_callv (va_runV (As := []) (rest := []) ⟨hx, hb, hml, hown, hts⟩ (mt_X9_lets l G h h_s h_images h_tape h_draft h_items h_moved h_sizes h_lanes h_less h_aside h_order H.size kept typed atv sv aside  _ hw) (cwV 0 hts (lw_V q1014 q1016 qs46 q65 q1017) rfl rfl rfl (by decide +kernel) ⟨Nat.le_of_ble_eq_true rfl, Nat.le_of_ble_eq_true rfl⟩) ⟨fun a U g mk q => by obtain ⟨q0, q1, qP, qK, qD⟩ := q; exact ⟨q0, q1, qP, qK.call, qD⟩, va_recv hK.1 hP (ci := 9) (q0 := 2) rfl rfl, fun U hU hW => ⟨rfl, by rw [hU], by rw [hU]; exact hPc, hK.warm hW, hDc.weaken (fun _ _ _ _ => trivial)⟩⟩ rfl rfl hl.1 rfl (lv_room (Nat.le_of_ble_eq_true rfl)) dX9_ends_43 ⟨Nat.le_of_ble_eq_true rfl, Nat.le_of_ble_eq_true rfl⟩) hS (fun q _ h => hFc q h) hFc (fun u_6 t H1 locs ht hvm hw hB hz1 hk1 hS => ?_)
        obtain ⟨hP1, hD1⟩ := hB
        rw [ht] at hP1
        obtain ⟨hP, hD⟩ := va_join (wr := [ai G h_less 6 less]) (w1 := [oc h 9 [.ref h_s, .ref h_images, .int kept, .ref h_tape, .int typed, .ref h_draft, .int atv, .ref h_items, .ref h_moved, .ref h_sizes, .ref h_lanes, .ref h_less, .ref h_aside, .ref h_order], ai G h_s 161 u_6, ai G h_aside 40 aside]) hP hD [2, 3, 1] [0] rfl rfl (by decide) (by decide) hk1 hFc hP1 hD1
        clear hPc hDc hFc hP1 hD1 hz1 hk1 hvm
        generalize H1 = H at hP hS ⊢
        have hP : va_P G.1 gCl [ai G h_less 6 less, oc h 9 [.ref h_s, .ref h_images, .int kept, .ref h_tape, .int typed, .ref h_draft, .int atv, .ref h_items, .ref h_moved, .ref h_sizes, .ref h_lanes, .ref h_less, .ref h_aside, .ref h_order], ai G h_s 161 u_6, ai G h_aside 40 aside] H := hP
        have hD : va_D A [ai G h_less 6 less, oc h 9 [.ref h_s, .ref h_images, .int kept, .ref h_tape, .int typed, .ref h_draft, .int atv, .ref h_items, .ref h_moved, .ref h_sizes, .ref h_lanes, .ref h_less, .ref h_aside, .ref h_order], ai G h_s 161 u_6, ai G h_aside 40 aside] := hD
        refine lv_iload_n hx hb dX9_ends_46 rfl (lv_at hl 2 rfl) ?_
        refine lv_bipush (v := (60 : Int32)) hx hb dX9_ends_47 (by decide) ?_
        refine lv_icmp_le (tgt := 57) hx hb dX9_ends_49 (by decide) (fun c_7 => ?_) (fun c_7 => ?_)
        · replace hw := hw.1 c_7
          refine lv_iload_n hx hb dX9_ends_57 rfl (lv_at hl 2 rfl) ?_
          have hP9 := hP.sub (ws' := [oc h 9 [.ref h_s, .ref h_images, .int kept, .ref h_tape, .int typed, .ref h_draft, .int atv, .ref h_items, .ref h_moved, .ref h_sizes, .ref h_lanes, .ref h_less, .ref h_aside, .ref h_order], ai G h_s 161 u_6, ai G h_less 6 less, ai G h_aside 40 aside]) [1, 2, 0, 3] rfl
          have hD9 := hD.sub (ws' := [oc h 9 [.ref h_s, .ref h_images, .int kept, .ref h_tape, .int typed, .ref h_draft, .int atv, .ref h_items, .ref h_moved, .ref h_sizes, .ref h_lanes, .ref h_less, .ref h_aside, .ref h_order], ai G h_s 161 u_6, ai G h_less 6 less, ai G h_aside 40 aside]) [1, 2, 0, 3] (by decide) rfl
          exact W.iret (v := x2) hx hb hr (fun t ht hW => ⟨⟨x2, (u_6, less, aside), rfl, hw, by rw [ht]; exact hP9, hD9⟩, hS.F ht⟩) hS.2.2 dX9_ends_58
        · replace hw := hw.2 c_7
          refine lv_bipush (v := (-4 : Int32)) hx hb dX9_ends_52 (by decide) ?_
          refine lv_goto (tgt := 58) hx hb dX9_ends_54 (by decide) ?_
          have hP9 := hP.sub (ws' := [oc h 9 [.ref h_s, .ref h_images, .int kept, .ref h_tape, .int typed, .ref h_draft, .int atv, .ref h_items, .ref h_moved, .ref h_sizes, .ref h_lanes, .ref h_less, .ref h_aside, .ref h_order], ai G h_s 161 u_6, ai G h_less 6 less, ai G h_aside 40 aside]) [1, 2, 0, 3] rfl
          have hD9 := hD.sub (ws' := [oc h 9 [.ref h_s, .ref h_images, .int kept, .ref h_tape, .int typed, .ref h_draft, .int atv, .ref h_items, .ref h_moved, .ref h_sizes, .ref h_lanes, .ref h_less, .ref h_aside, .ref h_order], ai G h_s 161 u_6, ai G h_less 6 less, ai G h_aside 40 aside]) [1, 2, 0, 3] (by decide) rfl
          exact W.iret (v := (-4 : Int32)) hx hb hr (fun t ht hW => ⟨⟨(-4 : Int32), (u_6, less, aside), rfl, hw, by rw [ht]; exact hP9, hD9⟩, hS.F ht⟩) hS.2.2 dX9_ends_58
      · replace hw := hw.2 c_5
        refine lv_aload_n hx hb dX9_ends_32 rfl (lv_at hl 0 rfl) ?_
        have hPc := hP.sub (ws' := [oc h 9 [.ref h_s, .ref h_images, .int kept, .ref h_tape, .int typed, .ref h_draft, .int atv, .ref h_items, .ref h_moved, .ref h_sizes, .ref h_lanes, .ref h_less, .ref h_aside, .ref h_order], ai G h_s 161 sv, ai G h_less 6 less]) [2, 3, 0] rfl
        have hDc := hD.sub (ws' := [oc h 9 [.ref h_s, .ref h_images, .int kept, .ref h_tape, .int typed, .ref h_draft, .int atv, .ref h_items, .ref h_moved, .ref h_sizes, .ref h_lanes, .ref h_less, .ref h_aside, .ref h_order], ai G h_s 161 sv, ai G h_less 6 less]) [2, 3, 0] (by decide) rfl
        have hFc := va_free (wc := [oc h 9 [.ref h_s, .ref h_images, .int kept, .ref h_tape, .int typed, .ref h_draft, .int atv, .ref h_items, .ref h_moved, .ref h_sizes, .ref h_lanes, .ref h_less, .ref h_aside, .ref h_order], ai G h_s 161 sv, ai G h_less 6 less]) hD hS hA [2, 3, 0] rfl
        refine va_callv (va_runV (As := []) (rest := []) ⟨hx, hb, hml, hown, hts⟩ (mt_X9_passes l G h h_s h_images h_tape h_draft h_items h_moved h_sizes h_lanes h_less h_aside h_order H.size kept typed atv sv less  _ hw) (cwV 0 hts (lw_V q972 q974 qs43 q65 q975) rfl rfl rfl (by decide +kernel) ⟨Nat.le_of_ble_eq_true rfl, Nat.le_of_ble_eq_true rfl⟩) ⟨fun a U g mk q => by obtain ⟨q0, q1, qP, qK, qD⟩ := q; exact ⟨q0, q1, qP, qK.call, qD⟩, va_recv hK.1 hP (ci := 9) (q0 := 2) rfl rfl, fun U hU hW => ⟨rfl, by rw [hU], by rw [hU]; exact hPc, hK.warm hW, hDc.weaken (fun _ _ _ _ => trivial)⟩⟩ rfl rfl hl.1 rfl (lv_room (Nat.le_of_ble_eq_true rfl)) dX9_ends_33 ⟨Nat.le_of_ble_eq_true rfl, Nat.le_of_ble_eq_true rfl⟩) hS (fun q _ h => hFc q h) hFc (fun u_8 t H1 locs ht hvm hw hB hz1 hk1 hS => ?_)
        obtain ⟨hP1, hD1⟩ := hB
        rw [ht] at hP1
        obtain ⟨hP, hD⟩ := va_join (wr := [ai G h_aside 40 aside]) (w1 := [oc h 9 [.ref h_s, .ref h_images, .int kept, .ref h_tape, .int typed, .ref h_draft, .int atv, .ref h_items, .ref h_moved, .ref h_sizes, .ref h_lanes, .ref h_less, .ref h_aside, .ref h_order], ai G h_s 161 u_8.1, ai G h_less 6 u_8.2]) hP hD [2, 3, 0] [1] rfl rfl (by decide) (by decide) hk1 hFc hP1 hD1
        clear hPc hDc hFc hP1 hD1 hz1 hk1 hvm
        generalize H1 = H at hP hS ⊢
        have hP : va_P G.1 gCl [ai G h_aside 40 aside, oc h 9 [.ref h_s, .ref h_images, .int kept, .ref h_tape, .int typed, .ref h_draft, .int atv, .ref h_items, .ref h_moved, .ref h_sizes, .ref h_lanes, .ref h_less, .ref h_aside, .ref h_order], ai G h_s 161 u_8.1, ai G h_less 6 u_8.2] H := hP
        have hD : va_D A [ai G h_aside 40 aside, oc h 9 [.ref h_s, .ref h_images, .int kept, .ref h_tape, .int typed, .ref h_draft, .int atv, .ref h_items, .ref h_moved, .ref h_sizes, .ref h_lanes, .ref h_less, .ref h_aside, .ref h_order], ai G h_s 161 u_8.1, ai G h_less 6 u_8.2] := hD
        refine lv_iinc (v := (x2 + (1 : Int32))) (lv' := [(2, .int (x2 + (1 : Int32))), (0, .ref h), (1, .int p1)]) hx hb dX9_ends_36 hl (k := 2) rfl rfl (by decide) rfl (fun ls hl => ?_)
        refine lv_goto (tgt := 16) hx hb dX9_ends_39 (by decide) ?_
        exact ih u_8.1 u_8.2 aside (x2 + (1 : Int32)) H locs (hP.sub [1, 2, 3, 0] rfl) (hD.sub [1, 2, 3, 0] (by decide) rfl) hS ls (lv_sub hl [1, 2, 0] rfl) hw
def wp_X9_ends (sv : Nat → Int32) (less : Nat → Int32) (aside : Nat → Int32) (p1 : Int32) (Q : Int32 → ((Nat → Int32) × (Nat → Int32) × (Nat → Int32)) → Prop) : Prop :=
  wp_X9_isMan sv p1 (fun r_1 => ((¬ (r_1 = 0) → wp_X9_holds sv aside  (fun u_3 => (∃ j_ : Nat, wp_X9_ends_16 p1 Q  j_ sv less u_3 (0 : Int32)))) ∧ ((r_1 = 0) → Q (-1 : Int32) (sv, less, aside))))
set_option maxHeartbeats 4000000 in
theorem mt_X9_ends (l : Launch) (G : GT) (h h_s h_images h_tape h_draft h_items h_moved h_sizes h_lanes h_less h_aside h_order : Nat) (sz : Nat) (kept : Int32) (typed : Int32) (atv : Int32) (sv : Nat → Int32) (less : Nat → Int32) (aside : Nat → Int32) (p1 : Int32) (Q : Int32 → ((Nat → Int32) × (Nat → Int32) × (Nat → Int32)) → Prop) (hw : wp_X9_ends sv less aside p1 Q) : Met l yX9_ends (ws_ yX9_ends cX9_ends 3 (some .int)) ({ frames := 5, cells := 0, slots := 0, locals := 113 } : Room) (va_Pc [.ref h, .int p1] (fun U => U.heap.size = sz ∧ va_P G.1 gCl [oc h 9 [.ref h_s, .ref h_images, .int kept, .ref h_tape, .int typed, .ref h_draft, .int atv, .ref h_items, .ref h_moved, .ref h_sizes, .ref h_lanes, .ref h_less, .ref h_aside, .ref h_order], ai G h_s 161 sv, ai G h_less 6 less, ai G h_aside 40 aside] U.heap ∧ gK G U ∧ va_D (fun _ => True) [oc h 9 [.ref h_s, .ref h_images, .int kept, .ref h_tape, .int typed, .ref h_draft, .int atv, .ref h_items, .ref h_moved, .ref h_sizes, .ref h_lanes, .ref h_less, .ref h_aside, .ref h_order], ai G h_s 161 sv, ai G h_less 6 less, ai G h_aside 40 aside])) ((fun A => (va_Qi (fun (r : Int32) (u : (Nat → Int32) × (Nat → Int32) × (Nat → Int32)) => Q r u) (fun u t => va_P G.1 gCl [oc h 9 [.ref h_s, .ref h_images, .int kept, .ref h_tape, .int typed, .ref h_draft, .int atv, .ref h_items, .ref h_moved, .ref h_sizes, .ref h_lanes, .ref h_less, .ref h_aside, .ref h_order], ai G h_s 161 u.1, ai G h_less 6 u.2.1, ai G h_aside 40 u.2.2] t.heap ∧ va_D A [oc h 9 [.ref h_s, .ref h_images, .int kept, .ref h_tape, .int typed, .ref h_draft, .int atv, .ref h_items, .ref h_moved, .ref h_sizes, .ref h_lanes, .ref h_less, .ref h_aside, .ref h_order], ai G h_s 161 u.1, ai G h_less 6 u.2.1, ai G h_aside 40 u.2.2]) A)) (va_A [oc h 9 [.ref h_s, .ref h_images, .int kept, .ref h_tape, .int typed, .ref h_draft, .int atv, .ref h_items, .ref h_moved, .ref h_sizes, .ref h_lanes, .ref h_less, .ref h_aside, .ref h_order], ai G h_s 161 sv, ai G h_less 6 less, ai G h_aside 40 aside] sz)) 0 0 (va_A [oc h 9 [.ref h_s, .ref h_images, .int kept, .ref h_tape, .int typed, .ref h_draft, .int atv, .ref h_items, .ref h_moved, .ref h_sizes, .ref h_lanes, .ref h_less, .ref h_aside, .ref h_order], ai G h_s 161 sv, ai G h_less 6 less, ai G h_aside 40 aside] sz) := by
  refine Met.ofW (cc := cX9_ends) (maxL := 3) (ret := (some .int)) (by decide) rfl ?_
  intro p e s m args below meth c s₁ B hml hv
  obtain ⟨rfl, hsz, hP, hK, hD0⟩ := hv
  have hx := B.exec
  have hb := B.bytes
  have hr := B.returns
  have hts := atoms_spec (ws := (ws_ yX9_ends cX9_ends 3 (some .int))) B.pre
  have hts : ∀ w ∈ lw_all, w.before _ s = true := fun w h => hts w (List.mem_cons_of_mem _ h)
  have hown : s.vm.findClass RX9 = some m.cls := findClass_of_methodNamed B.named
  have hlocks := B.notSynchronized
  subst hsz
  have hD := hD0.self (sz := s.heap.size)
  generalize hAe : va_A [oc h 9 [.ref h_s, .ref h_images, .int kept, .ref h_tape, .int typed, .ref h_draft, .int atv, .ref h_items, .ref h_moved, .ref h_sizes, .ref h_lanes, .ref h_less, .ref h_aside, .ref h_order], ai G h_s 161 sv, ai G h_less 6 less, ai G h_aside 40 aside] s.heap.size = A at hD ⊢
  have hA : ∀ q : Nat, s.heap.size ≤ q → A q := fun q h => by rw [← hAe]; exact Or.inr h
  have hS : va_S A s.heap s.heap [] := va_S.rf
  have C : Cx p s m meth c cX9_ends 3 (some .int) RX9 ([.ref h, .int p1] : List Value).toArray G A := ⟨hx, hb, hr, hlocks, hml, hown, hts, hK, hA⟩
  have hl := lv_entry ([.ref h, .int p1]) (n := 3) (Nat.le_of_ble_eq_true rfl)
  rw [lg_entry_eq]
  generalize (lg_sl ([.ref h, .int p1]) ++ List.replicate (3 - (lg_sl ([.ref h, .int p1])).length) Slot.unset).toArray = ls at hl ⊢
  have hl : lv_has ls 3 [(0, .ref h), (1, .int p1)] := hl
  unfold wp_X9_ends at hw
  refine lv_aload_n hx hb dX9_ends_0 rfl (lv_at hl 0 rfl) ?_
  refine lv_iload_n hx hb dX9_ends_1 rfl (lv_at hl 1 rfl) ?_
  have hPc := hP.sub (ws' := [oc h 9 [.ref h_s, .ref h_images, .int kept, .ref h_tape, .int typed, .ref h_draft, .int atv, .ref h_items, .ref h_moved, .ref h_sizes, .ref h_lanes, .ref h_less, .ref h_aside, .ref h_order], ai G h_s 161 sv]) [0, 1] rfl
  have hDc := hD.sub (ws' := [oc h 9 [.ref h_s, .ref h_images, .int kept, .ref h_tape, .int typed, .ref h_draft, .int atv, .ref h_items, .ref h_moved, .ref h_sizes, .ref h_lanes, .ref h_less, .ref h_aside, .ref h_order], ai G h_s 161 sv]) [0, 1] (by decide) rfl
  have hFc := va_free (wc := [oc h 9 [.ref h_s, .ref h_images, .int kept, .ref h_tape, .int typed, .ref h_draft, .int atv, .ref h_items, .ref h_moved, .ref h_sizes, .ref h_lanes, .ref h_less, .ref h_aside, .ref h_order], ai G h_s 161 sv]) hD hS hA [0, 1] rfl
  refine va_calli (va_runV (As := [.int p1]) (rest := []) ⟨hx, hb, hml, hown, hts⟩ (mt_X9_isMan l G h h_s h_images h_tape h_draft h_items h_moved h_sizes h_lanes h_less h_aside h_order s.heap.size kept typed atv sv p1 _ hw) (cwV 1 hts (lw_V q875 q877 qs27 q65 q878) rfl rfl rfl (by decide +kernel) ⟨Nat.le_of_ble_eq_true rfl, Nat.le_of_ble_eq_true rfl⟩) ⟨fun a U g mk q => by obtain ⟨q0, q1, qP, qK, qD⟩ := q; exact ⟨q0, q1, qP, qK.call, qD⟩, va_recv hK.1 hP (ci := 9) (q0 := 0) rfl rfl, fun U hU hW => ⟨rfl, by rw [hU], by rw [hU]; exact hPc, hK.warm hW, hDc.weaken (fun _ _ _ _ => trivial)⟩⟩ rfl rfl hl.1 rfl (lv_room (Nat.le_of_ble_eq_true rfl)) dX9_ends_2 ⟨Nat.le_of_ble_eq_true rfl, Nat.le_of_ble_eq_true rfl⟩) hS (fun q _ h => hFc q h) hFc (fun r_1 _ t H1 locs ht hvm hw hB hz1 hk1 hS => ?_)
  obtain ⟨hP1, hD1⟩ := hB
  rw [ht] at hP1
  obtain ⟨hP, hD⟩ := va_join (wr := [ai G h_less 6 less, ai G h_aside 40 aside]) (w1 := [oc h 9 [.ref h_s, .ref h_images, .int kept, .ref h_tape, .int typed, .ref h_draft, .int atv, .ref h_items, .ref h_moved, .ref h_sizes, .ref h_lanes, .ref h_less, .ref h_aside, .ref h_order], ai G h_s 161 sv]) hP hD [0, 1] [2, 3] rfl rfl (by decide) (by decide) hk1 hFc hP1 hD1
  clear hPc hDc hFc hP1 hD1 hz1 hk1 hvm
  generalize H1 = H at hP hS ⊢
  have hP : va_P G.1 gCl [ai G h_less 6 less, ai G h_aside 40 aside, oc h 9 [.ref h_s, .ref h_images, .int kept, .ref h_tape, .int typed, .ref h_draft, .int atv, .ref h_items, .ref h_moved, .ref h_sizes, .ref h_lanes, .ref h_less, .ref h_aside, .ref h_order], ai G h_s 161 sv] H := hP
  have hD : va_D A [ai G h_less 6 less, ai G h_aside 40 aside, oc h 9 [.ref h_s, .ref h_images, .int kept, .ref h_tape, .int typed, .ref h_draft, .int atv, .ref h_items, .ref h_moved, .ref h_sizes, .ref h_lanes, .ref h_less, .ref h_aside, .ref h_order], ai G h_s 161 sv] := hD
  refine lv_if_ne (tgt := 10) hx hb dX9_ends_5 (by decide) (fun c_2 => ?_) (fun c_2 => ?_)
  · replace hw := hw.1 c_2
    refine lv_aload_n hx hb dX9_ends_10 rfl (lv_at hl 0 rfl) ?_
    have hPc := hP.sub (ws' := [oc h 9 [.ref h_s, .ref h_images, .int kept, .ref h_tape, .int typed, .ref h_draft, .int atv, .ref h_items, .ref h_moved, .ref h_sizes, .ref h_lanes, .ref h_less, .ref h_aside, .ref h_order], ai G h_s 161 sv, ai G h_aside 40 aside]) [2, 3, 1] rfl
    have hDc := hD.sub (ws' := [oc h 9 [.ref h_s, .ref h_images, .int kept, .ref h_tape, .int typed, .ref h_draft, .int atv, .ref h_items, .ref h_moved, .ref h_sizes, .ref h_lanes, .ref h_less, .ref h_aside, .ref h_order], ai G h_s 161 sv, ai G h_aside 40 aside]) [2, 3, 1] (by decide) rfl
    have hFc := va_free (wc := [oc h 9 [.ref h_s, .ref h_images, .int kept, .ref h_tape, .int typed, .ref h_draft, .int atv, .ref h_items, .ref h_moved, .ref h_sizes, .ref h_lanes, .ref h_less, .ref h_aside, .ref h_order], ai G h_s 161 sv, ai G h_aside 40 aside]) hD hS hA [2, 3, 1] rfl
    refine va_callv (va_runV (As := []) (rest := []) ⟨hx, hb, hml, hown, hts⟩ (mt_X9_holds l G h h_s h_images h_tape h_draft h_items h_moved h_sizes h_lanes h_less h_aside h_order H.size kept typed atv sv aside  _ hw) (cwV 0 hts (lw_V q1010 q1012 qs45 q65 q1013) rfl rfl rfl (by decide +kernel) ⟨Nat.le_of_ble_eq_true rfl, Nat.le_of_ble_eq_true rfl⟩) ⟨fun a U g mk q => by obtain ⟨q0, q1, qP, qK, qD⟩ := q; exact ⟨q0, q1, qP, qK.call, qD⟩, va_recv hK.1 hP (ci := 9) (q0 := 2) rfl rfl, fun U hU hW => ⟨rfl, by rw [hU], by rw [hU]; exact hPc, hK.warm hW, hDc.weaken (fun _ _ _ _ => trivial)⟩⟩ rfl rfl hl.1 rfl (lv_room (Nat.le_of_ble_eq_true rfl)) dX9_ends_11 ⟨Nat.le_of_ble_eq_true rfl, Nat.le_of_ble_eq_true rfl⟩) hS (fun q _ h => hFc q h) hFc (fun u_3 t H1 locs ht hvm hw hB hz1 hk1 hS => ?_)
    obtain ⟨hP1, hD1⟩ := hB
    rw [ht] at hP1
    obtain ⟨hP, hD⟩ := va_join (wr := [ai G h_less 6 less]) (w1 := [oc h 9 [.ref h_s, .ref h_images, .int kept, .ref h_tape, .int typed, .ref h_draft, .int atv, .ref h_items, .ref h_moved, .ref h_sizes, .ref h_lanes, .ref h_less, .ref h_aside, .ref h_order], ai G h_s 161 sv, ai G h_aside 40 u_3]) hP hD [2, 3, 1] [0] rfl rfl (by decide) (by decide) hk1 hFc hP1 hD1
    clear hPc hDc hFc hP1 hD1 hz1 hk1 hvm
    generalize H1 = H at hP hS ⊢
    have hP : va_P G.1 gCl [ai G h_less 6 less, oc h 9 [.ref h_s, .ref h_images, .int kept, .ref h_tape, .int typed, .ref h_draft, .int atv, .ref h_items, .ref h_moved, .ref h_sizes, .ref h_lanes, .ref h_less, .ref h_aside, .ref h_order], ai G h_s 161 sv, ai G h_aside 40 u_3] H := hP
    have hD : va_D A [ai G h_less 6 less, oc h 9 [.ref h_s, .ref h_images, .int kept, .ref h_tape, .int typed, .ref h_draft, .int atv, .ref h_items, .ref h_moved, .ref h_sizes, .ref h_lanes, .ref h_less, .ref h_aside, .ref h_order], ai G h_s 161 sv, ai G h_aside 40 u_3] := hD
    refine lv_iconst (v := (0 : Int32)) hx hb dX9_ends_14 (by decide) ?_
    refine lv_istore_n (lv' := [(2, .int (0 : Int32)), (0, .ref h), (1, .int p1)]) hx hb dX9_ends_15 rfl hl (by decide) rfl (fun ls hl => ?_)
    obtain ⟨j_, hw⟩ := hw
    exact wk_X9_ends_16 h h_s h_images h_tape h_draft h_items h_moved h_sizes h_lanes h_less h_aside h_order kept typed atv p1  Q  C  j_ sv less u_3 (0 : Int32) H locs (hP.sub [1, 2, 0, 3] rfl) (hD.sub [1, 2, 0, 3] (by decide) rfl) hS ls (lv_sub hl [1, 2, 0] rfl) hw
  · replace hw := hw.2 c_2
    refine lv_iconst (v := (-1 : Int32)) hx hb dX9_ends_8 (by decide) ?_
    have hP9 := hP.sub (ws' := [oc h 9 [.ref h_s, .ref h_images, .int kept, .ref h_tape, .int typed, .ref h_draft, .int atv, .ref h_items, .ref h_moved, .ref h_sizes, .ref h_lanes, .ref h_less, .ref h_aside, .ref h_order], ai G h_s 161 sv, ai G h_less 6 less, ai G h_aside 40 aside]) [2, 3, 0, 1] rfl
    have hD9 := hD.sub (ws' := [oc h 9 [.ref h_s, .ref h_images, .int kept, .ref h_tape, .int typed, .ref h_draft, .int atv, .ref h_items, .ref h_moved, .ref h_sizes, .ref h_lanes, .ref h_less, .ref h_aside, .ref h_order], ai G h_s 161 sv, ai G h_less 6 less, ai G h_aside 40 aside]) [2, 3, 0, 1] (by decide) rfl
    exact W.iret (v := (-1 : Int32)) hx hb hr (fun t ht hW => ⟨⟨(-1 : Int32), (sv, less, aside), rfl, hw, by rw [ht]; exact hP9, hD9⟩, hS.F ht⟩) hS.2.2 dX9_ends_9
/-! BattleBenchModel.lonely()I -/
def wp_X9_lonely_6  (Q : Int32 → ((Nat → Int32) × (Nat → Int32) × (Nat → Int32)) → Prop)  : Nat → (Nat → Int32) → (Nat → Int32) → (Nat → Int32) → Int32 → Prop
  | 0, _, _, _, _ => False
  | n + 1, sv, less, aside, x1 =>
    ((((60 : Int32) < x1) → wp_X9_lets sv aside  (fun u_2 => (((x1 ≤ (60 : Int32)) → Q x1 (u_2, less, aside)) ∧ (¬ (x1 ≤ (60 : Int32)) → Q (-4 : Int32) (u_2, less, aside))))) ∧ (¬ ((60 : Int32) < x1) → ((((sv 1) ≤ (1 : Int32)) → wp_X9_lets sv aside  (fun u_5 => (((x1 ≤ (60 : Int32)) → Q x1 (u_5, less, aside)) ∧ (¬ (x1 ≤ (60 : Int32)) → Q (-4 : Int32) (u_5, less, aside))))) ∧ (¬ ((sv 1) ≤ (1 : Int32)) → wp_X9_passes sv less  (fun u_7 => wp_X9_lonely_6  Q  n u_7.1 u_7.2 aside (x1 + (1 : Int32)))))))
set_option maxHeartbeats 4000000 in
theorem wk_X9_lonely_6 {p : Program} {l : Launch} {e : Env} {s : State} {m : MethodId} {below : List Frame} {meth : Method} {c : Code} {args : Array Value} {G : GT} {A : Nat → Prop} (h h_s h_images h_tape h_draft h_items h_moved h_sizes h_lanes h_less h_aside h_order : Nat) (kept : Int32) (typed : Int32) (atv : Int32) (Q : Int32 → ((Nat → Int32) × (Nat → Int32) × (Nat → Int32)) → Prop)  (C : Cx p s m meth c cX9_lonely 2 (some .int) RX9 args G A)  :
    ∀ (n : Nat), ∀  (sv : Nat → Int32) (less : Nat → Int32) (aside : Nat → Int32) (x1 : Int32) (H : Heap) (locs : List Loc), va_P G.1 gCl [oc h 9 [.ref h_s, .ref h_images, .int kept, .ref h_tape, .int typed, .ref h_draft, .int atv, .ref h_items, .ref h_moved, .ref h_sizes, .ref h_lanes, .ref h_less, .ref h_aside, .ref h_order], ai G h_s 161 sv, ai G h_less 6 less, ai G h_aside 40 aside] H → va_D A [oc h 9 [.ref h_s, .ref h_images, .int kept, .ref h_tape, .int typed, .ref h_draft, .int atv, .ref h_items, .ref h_moved, .ref h_sizes, .ref h_lanes, .ref h_less, .ref h_aside, .ref h_order], ai G h_s 161 sv, ai G h_less 6 less, ai G h_aside 40 aside] → va_S A s.heap H locs → ∀ (ls : Array Slot), lv_has ls 2 [(0, .ref h), (1, .int x1)] → wp_X9_lonely_6  Q  n sv less aside x1 → W p l e ({ frames := 5, cells := 0, slots := 0, locals := 113 } : Room) s m args below meth c H locs 0 0 (MQ below (va_Qi (fun (r : Int32) (u : (Nat → Int32) × (Nat → Int32) × (Nat → Int32)) => Q r u) (fun u t => va_P G.1 gCl [oc h 9 [.ref h_s, .ref h_images, .int kept, .ref h_tape, .int typed, .ref h_draft, .int atv, .ref h_items, .ref h_moved, .ref h_sizes, .ref h_lanes, .ref h_less, .ref h_aside, .ref h_order], ai G h_s 161 u.1, ai G h_less 6 u.2.1, ai G h_aside 40 u.2.2] t.heap ∧ va_D A [oc h 9 [.ref h_s, .ref h_images, .int kept, .ref h_tape, .int typed, .ref h_draft, .int atv, .ref h_items, .ref h_moved, .ref h_sizes, .ref h_lanes, .ref h_less, .ref h_aside, .ref h_order], ai G h_s 161 u.1, ai G h_less 6 u.2.1, ai G h_aside 40 u.2.2]) A) args s 0 0 A) (F0 m 6 ls []) := by
  have C9 := C
  obtain ⟨hx, hb, hr, hlocks, hml, hown, hts, hK, hA⟩ := C9
  intro n
  induction n with
  | zero => intro sv less aside x1 H locs hP hD hS ls hl hw; exact False.elim hw
  | succ n ih =>
    intro sv less aside x1 H locs hP hD hS ls hl hw
    unfold wp_X9_lonely_6 at hw
    refine lv_iload_n hx hb dX9_lonely_6 rfl (lv_at hl 1 rfl) ?_
    refine lv_bipush (v := (60 : Int32)) hx hb dX9_lonely_7 (by decide) ?_
    refine lv_icmp_gt (tgt := 32) hx hb dX9_lonely_9 (by decide) (fun c_1 => ?_) (fun c_1 => ?_)
    · replace hw := hw.1 c_1
      refine lv_aload_n hx hb dX9_lonely_32 rfl (lv_at hl 0 rfl) ?_
      have hPc := hP.sub (ws' := [oc h 9 [.ref h_s, .ref h_images, .int kept, .ref h_tape, .int typed, .ref h_draft, .int atv, .ref h_items, .ref h_moved, .ref h_sizes, .ref h_lanes, .ref h_less, .ref h_aside, .ref h_order], ai G h_s 161 sv, ai G h_aside 40 aside]) [0, 1, 3] rfl
      have hDc := hD.sub (ws' := [oc h 9 [.ref h_s, .ref h_images, .int kept, .ref h_tape, .int typed, .ref h_draft, .int atv, .ref h_items, .ref h_moved, .ref h_sizes, .ref h_lanes, .ref h_less, .ref h_aside, .ref h_order], ai G h_s 161 sv, ai G h_aside 40 aside]) [0, 1, 3] (by decide) rfl
      have hFc := va_free (wc := [oc h 9 [.ref h_s, .ref h_images, .int kept, .ref h_tape, .int typed, .ref h_draft, .int atv, .ref h_items, .ref h_moved, .ref h_sizes, .ref h_lanes, .ref h_less, .ref h_aside, .ref h_order], ai G h_s 161 sv, ai G h_aside 40 aside]) hD hS hA [0, 1, 3] rfl
      refine va_callv (va_runV (As := []) (rest := []) ⟨hx, hb, hml, hown, hts⟩ (mt_X9_lets l G h h_s h_images h_tape h_draft h_items h_moved h_sizes h_lanes h_less h_aside h_order H.size kept typed atv sv aside  _ hw) (cwV 0 hts (lw_V q1014 q1016 qs46 q65 q1017) rfl rfl rfl (by decide +kernel) ⟨Nat.le_of_ble_eq_true rfl, Nat.le_of_ble_eq_true rfl⟩) ⟨fun a U g mk q => by obtain ⟨q0, q1, qP, qK, qD⟩ := q; exact ⟨q0, q1, qP, qK.call, qD⟩, va_recv hK.1 hP (ci := 9) (q0 := 0) rfl rfl, fun U hU hW => ⟨rfl, by rw [hU], by rw [hU]; exact hPc, hK.warm hW, hDc.weaken (fun _ _ _ _ => trivial)⟩⟩ rfl rfl hl.1 rfl (lv_room (Nat.le_of_ble_eq_true rfl)) dX9_lonely_33 ⟨Nat.le_of_ble_eq_true rfl, Nat.le_of_ble_eq_true rfl⟩) hS (fun q _ h => hFc q h) hFc (fun u_2 t H1 locs ht hvm hw hB hz1 hk1 hS => ?_)
      obtain ⟨hP1, hD1⟩ := hB
      rw [ht] at hP1
      obtain ⟨hP, hD⟩ := va_join (wr := [ai G h_less 6 less]) (w1 := [oc h 9 [.ref h_s, .ref h_images, .int kept, .ref h_tape, .int typed, .ref h_draft, .int atv, .ref h_items, .ref h_moved, .ref h_sizes, .ref h_lanes, .ref h_less, .ref h_aside, .ref h_order], ai G h_s 161 u_2, ai G h_aside 40 aside]) hP hD [0, 1, 3] [2] rfl rfl (by decide) (by decide) hk1 hFc hP1 hD1
      clear hPc hDc hFc hP1 hD1 hz1 hk1 hvm
      generalize H1 = H at hP hS ⊢
      have hP : va_P G.1 gCl [ai G h_less 6 less, oc h 9 [.ref h_s, .ref h_images, .int kept, .ref h_tape, .int typed, .ref h_draft, .int atv, .ref h_items, .ref h_moved, .ref h_sizes, .ref h_lanes, .ref h_less, .ref h_aside, .ref h_order], ai G h_s 161 u_2, ai G h_aside 40 aside] H := hP
      have hD : va_D A [ai G h_less 6 less, oc h 9 [.ref h_s, .ref h_images, .int kept, .ref h_tape, .int typed, .ref h_draft, .int atv, .ref h_items, .ref h_moved, .ref h_sizes, .ref h_lanes, .ref h_less, .ref h_aside, .ref h_order], ai G h_s 161 u_2, ai G h_aside 40 aside] := hD
      refine lv_iload_n hx hb dX9_lonely_36 rfl (lv_at hl 1 rfl) ?_
      refine lv_bipush (v := (60 : Int32)) hx hb dX9_lonely_37 (by decide) ?_
      refine lv_icmp_le (tgt := 47) hx hb dX9_lonely_39 (by decide) (fun c_3 => ?_) (fun c_3 => ?_)
      · replace hw := hw.1 c_3
        refine lv_iload_n hx hb dX9_lonely_47 rfl (lv_at hl 1 rfl) ?_
        have hP9 := hP.sub (ws' := [oc h 9 [.ref h_s, .ref h_images, .int kept, .ref h_tape, .int typed, .ref h_draft, .int atv, .ref h_items, .ref h_moved, .ref h_sizes, .ref h_lanes, .ref h_less, .ref h_aside, .ref h_order], ai G h_s 161 u_2, ai G h_less 6 less, ai G h_aside 40 aside]) [1, 2, 0, 3] rfl
        have hD9 := hD.sub (ws' := [oc h 9 [.ref h_s, .ref h_images, .int kept, .ref h_tape, .int typed, .ref h_draft, .int atv, .ref h_items, .ref h_moved, .ref h_sizes, .ref h_lanes, .ref h_less, .ref h_aside, .ref h_order], ai G h_s 161 u_2, ai G h_less 6 less, ai G h_aside 40 aside]) [1, 2, 0, 3] (by decide) rfl
        exact W.iret (v := x1) hx hb hr (fun t ht hW => ⟨⟨x1, (u_2, less, aside), rfl, hw, by rw [ht]; exact hP9, hD9⟩, hS.F ht⟩) hS.2.2 dX9_lonely_48
      · replace hw := hw.2 c_3
        refine lv_bipush (v := (-4 : Int32)) hx hb dX9_lonely_42 (by decide) ?_
        refine lv_goto (tgt := 48) hx hb dX9_lonely_44 (by decide) ?_
        have hP9 := hP.sub (ws' := [oc h 9 [.ref h_s, .ref h_images, .int kept, .ref h_tape, .int typed, .ref h_draft, .int atv, .ref h_items, .ref h_moved, .ref h_sizes, .ref h_lanes, .ref h_less, .ref h_aside, .ref h_order], ai G h_s 161 u_2, ai G h_less 6 less, ai G h_aside 40 aside]) [1, 2, 0, 3] rfl
        have hD9 := hD.sub (ws' := [oc h 9 [.ref h_s, .ref h_images, .int kept, .ref h_tape, .int typed, .ref h_draft, .int atv, .ref h_items, .ref h_moved, .ref h_sizes, .ref h_lanes, .ref h_less, .ref h_aside, .ref h_order], ai G h_s 161 u_2, ai G h_less 6 less, ai G h_aside 40 aside]) [1, 2, 0, 3] (by decide) rfl
        exact W.iret (v := (-4 : Int32)) hx hb hr (fun t ht hW => ⟨⟨(-4 : Int32), (u_2, less, aside), rfl, hw, by rw [ht]; exact hP9, hD9⟩, hS.F ht⟩) hS.2.2 dX9_lonely_48
    · replace hw := hw.2 c_1
      refine lv_aload_n hx hb dX9_lonely_12 rfl (lv_at hl 0 rfl) ?_
      refine va_get (D := G.1) (ci := 9) (v := .ref h_s) (C := RX9) (T := TX9) (N := 14) hx hb hts in_X9 hown hK.1 hP 0 rfl rfl 0 (by decide) (hts _ q817) (fun _ h9 => h9) rfl dX9_lonely_13 ?_
      refine lv_iconst (v := (1 : Int32)) hx hb dX9_lonely_16 (by decide) ?_
      refine z_iald hx hb hK.1 hP 1 0 rfl rfl (vin_l (by decide +kernel)) dX9_lonely_17 (k := 1) rfl ?_
      refine lv_iconst (v := (1 : Int32)) hx hb dX9_lonely_18 (by decide) ?_
      refine lv_icmp_le (tgt := 32) hx hb dX9_lonely_19 (by decide) (fun c_4 => ?_) (fun c_4 => ?_)
      · replace hw := hw.1 c_4
        refine lv_aload_n hx hb dX9_lonely_32 rfl (lv_at hl 0 rfl) ?_
        have hPc := hP.sub (ws' := [oc h 9 [.ref h_s, .ref h_images, .int kept, .ref h_tape, .int typed, .ref h_draft, .int atv, .ref h_items, .ref h_moved, .ref h_sizes, .ref h_lanes, .ref h_less, .ref h_aside, .ref h_order], ai G h_s 161 sv, ai G h_aside 40 aside]) [0, 1, 3] rfl
        have hDc := hD.sub (ws' := [oc h 9 [.ref h_s, .ref h_images, .int kept, .ref h_tape, .int typed, .ref h_draft, .int atv, .ref h_items, .ref h_moved, .ref h_sizes, .ref h_lanes, .ref h_less, .ref h_aside, .ref h_order], ai G h_s 161 sv, ai G h_aside 40 aside]) [0, 1, 3] (by decide) rfl
        have hFc := va_free (wc := [oc h 9 [.ref h_s, .ref h_images, .int kept, .ref h_tape, .int typed, .ref h_draft, .int atv, .ref h_items, .ref h_moved, .ref h_sizes, .ref h_lanes, .ref h_less, .ref h_aside, .ref h_order], ai G h_s 161 sv, ai G h_aside 40 aside]) hD hS hA [0, 1, 3] rfl
        refine va_callv (va_runV (As := []) (rest := []) ⟨hx, hb, hml, hown, hts⟩ (mt_X9_lets l G h h_s h_images h_tape h_draft h_items h_moved h_sizes h_lanes h_less h_aside h_order H.size kept typed atv sv aside  _ hw) (cwV 0 hts (lw_V q1014 q1016 qs46 q65 q1017) rfl rfl rfl (by decide +kernel) ⟨Nat.le_of_ble_eq_true rfl, Nat.le_of_ble_eq_true rfl⟩) ⟨fun a U g mk q => by obtain ⟨q0, q1, qP, qK, qD⟩ := q; exact ⟨q0, q1, qP, qK.call, qD⟩, va_recv hK.1 hP (ci := 9) (q0 := 0) rfl rfl, fun U hU hW => ⟨rfl, by rw [hU], by rw [hU]; exact hPc, hK.warm hW, hDc.weaken (fun _ _ _ _ => trivial)⟩⟩ rfl rfl hl.1 rfl (lv_room (Nat.le_of_ble_eq_true rfl)) dX9_lonely_33 ⟨Nat.le_of_ble_eq_true rfl, Nat.le_of_ble_eq_true rfl⟩) hS (fun q _ h => hFc q h) hFc (fun u_5 t H1 locs ht hvm hw hB hz1 hk1 hS => ?_)
        obtain ⟨hP1, hD1⟩ := hB
        rw [ht] at hP1
        obtain ⟨hP, hD⟩ := va_join (wr := [ai G h_less 6 less]) (w1 := [oc h 9 [.ref h_s, .ref h_images, .int kept, .ref h_tape, .int typed, .ref h_draft, .int atv, .ref h_items, .ref h_moved, .ref h_sizes, .ref h_lanes, .ref h_less, .ref h_aside, .ref h_order], ai G h_s 161 u_5, ai G h_aside 40 aside]) hP hD [0, 1, 3] [2] rfl rfl (by decide) (by decide) hk1 hFc hP1 hD1
        clear hPc hDc hFc hP1 hD1 hz1 hk1 hvm
        generalize H1 = H at hP hS ⊢
        have hP : va_P G.1 gCl [ai G h_less 6 less, oc h 9 [.ref h_s, .ref h_images, .int kept, .ref h_tape, .int typed, .ref h_draft, .int atv, .ref h_items, .ref h_moved, .ref h_sizes, .ref h_lanes, .ref h_less, .ref h_aside, .ref h_order], ai G h_s 161 u_5, ai G h_aside 40 aside] H := hP
        have hD : va_D A [ai G h_less 6 less, oc h 9 [.ref h_s, .ref h_images, .int kept, .ref h_tape, .int typed, .ref h_draft, .int atv, .ref h_items, .ref h_moved, .ref h_sizes, .ref h_lanes, .ref h_less, .ref h_aside, .ref h_order], ai G h_s 161 u_5, ai G h_aside 40 aside] := hD
        refine lv_iload_n hx hb dX9_lonely_36 rfl (lv_at hl 1 rfl) ?_
        refine lv_bipush (v := (60 : Int32)) hx hb dX9_lonely_37 (by decide) ?_
        refine lv_icmp_le (tgt := 47) hx hb dX9_lonely_39 (by decide) (fun c_6 => ?_) (fun c_6 => ?_)
        · replace hw := hw.1 c_6
          refine lv_iload_n hx hb dX9_lonely_47 rfl (lv_at hl 1 rfl) ?_
          have hP9 := hP.sub (ws' := [oc h 9 [.ref h_s, .ref h_images, .int kept, .ref h_tape, .int typed, .ref h_draft, .int atv, .ref h_items, .ref h_moved, .ref h_sizes, .ref h_lanes, .ref h_less, .ref h_aside, .ref h_order], ai G h_s 161 u_5, ai G h_less 6 less, ai G h_aside 40 aside]) [1, 2, 0, 3] rfl
          have hD9 := hD.sub (ws' := [oc h 9 [.ref h_s, .ref h_images, .int kept, .ref h_tape, .int typed, .ref h_draft, .int atv, .ref h_items, .ref h_moved, .ref h_sizes, .ref h_lanes, .ref h_less, .ref h_aside, .ref h_order], ai G h_s 161 u_5, ai G h_less 6 less, ai G h_aside 40 aside]) [1, 2, 0, 3] (by decide) rfl
          exact W.iret (v := x1) hx hb hr (fun t ht hW => ⟨⟨x1, (u_5, less, aside), rfl, hw, by rw [ht]; exact hP9, hD9⟩, hS.F ht⟩) hS.2.2 dX9_lonely_48
        · replace hw := hw.2 c_6
          refine lv_bipush (v := (-4 : Int32)) hx hb dX9_lonely_42 (by decide) ?_
          refine lv_goto (tgt := 48) hx hb dX9_lonely_44 (by decide) ?_
          have hP9 := hP.sub (ws' := [oc h 9 [.ref h_s, .ref h_images, .int kept, .ref h_tape, .int typed, .ref h_draft, .int atv, .ref h_items, .ref h_moved, .ref h_sizes, .ref h_lanes, .ref h_less, .ref h_aside, .ref h_order], ai G h_s 161 u_5, ai G h_less 6 less, ai G h_aside 40 aside]) [1, 2, 0, 3] rfl
          have hD9 := hD.sub (ws' := [oc h 9 [.ref h_s, .ref h_images, .int kept, .ref h_tape, .int typed, .ref h_draft, .int atv, .ref h_items, .ref h_moved, .ref h_sizes, .ref h_lanes, .ref h_less, .ref h_aside, .ref h_order], ai G h_s 161 u_5, ai G h_less 6 less, ai G h_aside 40 aside]) [1, 2, 0, 3] (by decide) rfl
          exact W.iret (v := (-4 : Int32)) hx hb hr (fun t ht hW => ⟨⟨(-4 : Int32), (u_5, less, aside), rfl, hw, by rw [ht]; exact hP9, hD9⟩, hS.F ht⟩) hS.2.2 dX9_lonely_48
      · replace hw := hw.2 c_4
        refine lv_aload_n hx hb dX9_lonely_22 rfl (lv_at hl 0 rfl) ?_
        have hPc := hP.sub (ws' := [oc h 9 [.ref h_s, .ref h_images, .int kept, .ref h_tape, .int typed, .ref h_draft, .int atv, .ref h_items, .ref h_moved, .ref h_sizes, .ref h_lanes, .ref h_less, .ref h_aside, .ref h_order], ai G h_s 161 sv, ai G h_less 6 less]) [0, 1, 2] rfl
        have hDc := hD.sub (ws' := [oc h 9 [.ref h_s, .ref h_images, .int kept, .ref h_tape, .int typed, .ref h_draft, .int atv, .ref h_items, .ref h_moved, .ref h_sizes, .ref h_lanes, .ref h_less, .ref h_aside, .ref h_order], ai G h_s 161 sv, ai G h_less 6 less]) [0, 1, 2] (by decide) rfl
        have hFc := va_free (wc := [oc h 9 [.ref h_s, .ref h_images, .int kept, .ref h_tape, .int typed, .ref h_draft, .int atv, .ref h_items, .ref h_moved, .ref h_sizes, .ref h_lanes, .ref h_less, .ref h_aside, .ref h_order], ai G h_s 161 sv, ai G h_less 6 less]) hD hS hA [0, 1, 2] rfl
        refine va_callv (va_runV (As := []) (rest := []) ⟨hx, hb, hml, hown, hts⟩ (mt_X9_passes l G h h_s h_images h_tape h_draft h_items h_moved h_sizes h_lanes h_less h_aside h_order H.size kept typed atv sv less  _ hw) (cwV 0 hts (lw_V q972 q974 qs43 q65 q975) rfl rfl rfl (by decide +kernel) ⟨Nat.le_of_ble_eq_true rfl, Nat.le_of_ble_eq_true rfl⟩) ⟨fun a U g mk q => by obtain ⟨q0, q1, qP, qK, qD⟩ := q; exact ⟨q0, q1, qP, qK.call, qD⟩, va_recv hK.1 hP (ci := 9) (q0 := 0) rfl rfl, fun U hU hW => ⟨rfl, by rw [hU], by rw [hU]; exact hPc, hK.warm hW, hDc.weaken (fun _ _ _ _ => trivial)⟩⟩ rfl rfl hl.1 rfl (lv_room (Nat.le_of_ble_eq_true rfl)) dX9_lonely_23 ⟨Nat.le_of_ble_eq_true rfl, Nat.le_of_ble_eq_true rfl⟩) hS (fun q _ h => hFc q h) hFc (fun u_7 t H1 locs ht hvm hw hB hz1 hk1 hS => ?_)
        obtain ⟨hP1, hD1⟩ := hB
        rw [ht] at hP1
        obtain ⟨hP, hD⟩ := va_join (wr := [ai G h_aside 40 aside]) (w1 := [oc h 9 [.ref h_s, .ref h_images, .int kept, .ref h_tape, .int typed, .ref h_draft, .int atv, .ref h_items, .ref h_moved, .ref h_sizes, .ref h_lanes, .ref h_less, .ref h_aside, .ref h_order], ai G h_s 161 u_7.1, ai G h_less 6 u_7.2]) hP hD [0, 1, 2] [3] rfl rfl (by decide) (by decide) hk1 hFc hP1 hD1
        clear hPc hDc hFc hP1 hD1 hz1 hk1 hvm
        generalize H1 = H at hP hS ⊢
        have hP : va_P G.1 gCl [ai G h_aside 40 aside, oc h 9 [.ref h_s, .ref h_images, .int kept, .ref h_tape, .int typed, .ref h_draft, .int atv, .ref h_items, .ref h_moved, .ref h_sizes, .ref h_lanes, .ref h_less, .ref h_aside, .ref h_order], ai G h_s 161 u_7.1, ai G h_less 6 u_7.2] H := hP
        have hD : va_D A [ai G h_aside 40 aside, oc h 9 [.ref h_s, .ref h_images, .int kept, .ref h_tape, .int typed, .ref h_draft, .int atv, .ref h_items, .ref h_moved, .ref h_sizes, .ref h_lanes, .ref h_less, .ref h_aside, .ref h_order], ai G h_s 161 u_7.1, ai G h_less 6 u_7.2] := hD
        refine lv_iinc (v := (x1 + (1 : Int32))) (lv' := [(1, .int (x1 + (1 : Int32))), (0, .ref h)]) hx hb dX9_lonely_26 hl (k := 1) rfl rfl (by decide) rfl (fun ls hl => ?_)
        refine lv_goto (tgt := 6) hx hb dX9_lonely_29 (by decide) ?_
        exact ih u_7.1 u_7.2 aside (x1 + (1 : Int32)) H locs (hP.sub [1, 2, 3, 0] rfl) (hD.sub [1, 2, 3, 0] (by decide) rfl) hS ls (lv_sub hl [1, 0] rfl) hw
def wp_X9_lonely (sv : Nat → Int32) (less : Nat → Int32) (aside : Nat → Int32) (Q : Int32 → ((Nat → Int32) × (Nat → Int32) × (Nat → Int32)) → Prop) : Prop :=
  wp_X9_holds sv aside  (fun u_1 => (∃ j_ : Nat, wp_X9_lonely_6  Q  j_ sv less u_1 (0 : Int32)))
set_option maxHeartbeats 4000000 in
theorem mt_X9_lonely (l : Launch) (G : GT) (h h_s h_images h_tape h_draft h_items h_moved h_sizes h_lanes h_less h_aside h_order : Nat) (sz : Nat) (kept : Int32) (typed : Int32) (atv : Int32) (sv : Nat → Int32) (less : Nat → Int32) (aside : Nat → Int32) (Q : Int32 → ((Nat → Int32) × (Nat → Int32) × (Nat → Int32)) → Prop) (hw : wp_X9_lonely sv less aside Q) : Met l yX9_lonely (ws_ yX9_lonely cX9_lonely 2 (some .int)) ({ frames := 5, cells := 0, slots := 0, locals := 113 } : Room) (va_Pc [.ref h] (fun U => U.heap.size = sz ∧ va_P G.1 gCl [oc h 9 [.ref h_s, .ref h_images, .int kept, .ref h_tape, .int typed, .ref h_draft, .int atv, .ref h_items, .ref h_moved, .ref h_sizes, .ref h_lanes, .ref h_less, .ref h_aside, .ref h_order], ai G h_s 161 sv, ai G h_less 6 less, ai G h_aside 40 aside] U.heap ∧ gK G U ∧ va_D (fun _ => True) [oc h 9 [.ref h_s, .ref h_images, .int kept, .ref h_tape, .int typed, .ref h_draft, .int atv, .ref h_items, .ref h_moved, .ref h_sizes, .ref h_lanes, .ref h_less, .ref h_aside, .ref h_order], ai G h_s 161 sv, ai G h_less 6 less, ai G h_aside 40 aside])) ((fun A => (va_Qi (fun (r : Int32) (u : (Nat → Int32) × (Nat → Int32) × (Nat → Int32)) => Q r u) (fun u t => va_P G.1 gCl [oc h 9 [.ref h_s, .ref h_images, .int kept, .ref h_tape, .int typed, .ref h_draft, .int atv, .ref h_items, .ref h_moved, .ref h_sizes, .ref h_lanes, .ref h_less, .ref h_aside, .ref h_order], ai G h_s 161 u.1, ai G h_less 6 u.2.1, ai G h_aside 40 u.2.2] t.heap ∧ va_D A [oc h 9 [.ref h_s, .ref h_images, .int kept, .ref h_tape, .int typed, .ref h_draft, .int atv, .ref h_items, .ref h_moved, .ref h_sizes, .ref h_lanes, .ref h_less, .ref h_aside, .ref h_order], ai G h_s 161 u.1, ai G h_less 6 u.2.1, ai G h_aside 40 u.2.2]) A)) (va_A [oc h 9 [.ref h_s, .ref h_images, .int kept, .ref h_tape, .int typed, .ref h_draft, .int atv, .ref h_items, .ref h_moved, .ref h_sizes, .ref h_lanes, .ref h_less, .ref h_aside, .ref h_order], ai G h_s 161 sv, ai G h_less 6 less, ai G h_aside 40 aside] sz)) 0 0 (va_A [oc h 9 [.ref h_s, .ref h_images, .int kept, .ref h_tape, .int typed, .ref h_draft, .int atv, .ref h_items, .ref h_moved, .ref h_sizes, .ref h_lanes, .ref h_less, .ref h_aside, .ref h_order], ai G h_s 161 sv, ai G h_less 6 less, ai G h_aside 40 aside] sz) := by
  refine Met.ofW (cc := cX9_lonely) (maxL := 2) (ret := (some .int)) (by decide) rfl ?_
  intro p e s m args below meth c s₁ B hml hv
  obtain ⟨rfl, hsz, hP, hK, hD0⟩ := hv
  have hx := B.exec
  have hb := B.bytes
  have hr := B.returns
  have hts := atoms_spec (ws := (ws_ yX9_lonely cX9_lonely 2 (some .int))) B.pre
  have hts : ∀ w ∈ lw_all, w.before _ s = true := fun w h => hts w (List.mem_cons_of_mem _ h)
  have hown : s.vm.findClass RX9 = some m.cls := findClass_of_methodNamed B.named
  have hlocks := B.notSynchronized
  subst hsz
  have hD := hD0.self (sz := s.heap.size)
  generalize hAe : va_A [oc h 9 [.ref h_s, .ref h_images, .int kept, .ref h_tape, .int typed, .ref h_draft, .int atv, .ref h_items, .ref h_moved, .ref h_sizes, .ref h_lanes, .ref h_less, .ref h_aside, .ref h_order], ai G h_s 161 sv, ai G h_less 6 less, ai G h_aside 40 aside] s.heap.size = A at hD ⊢
  have hA : ∀ q : Nat, s.heap.size ≤ q → A q := fun q h => by rw [← hAe]; exact Or.inr h
  have hS : va_S A s.heap s.heap [] := va_S.rf
  have C : Cx p s m meth c cX9_lonely 2 (some .int) RX9 ([.ref h] : List Value).toArray G A := ⟨hx, hb, hr, hlocks, hml, hown, hts, hK, hA⟩
  have hl := lv_entry ([.ref h]) (n := 2) (Nat.le_of_ble_eq_true rfl)
  rw [lg_entry_eq]
  generalize (lg_sl ([.ref h]) ++ List.replicate (2 - (lg_sl ([.ref h])).length) Slot.unset).toArray = ls at hl ⊢
  have hl : lv_has ls 2 [(0, .ref h)] := hl
  unfold wp_X9_lonely at hw
  refine lv_aload_n hx hb dX9_lonely_0 rfl (lv_at hl 0 rfl) ?_
  have hPc := hP.sub (ws' := [oc h 9 [.ref h_s, .ref h_images, .int kept, .ref h_tape, .int typed, .ref h_draft, .int atv, .ref h_items, .ref h_moved, .ref h_sizes, .ref h_lanes, .ref h_less, .ref h_aside, .ref h_order], ai G h_s 161 sv, ai G h_aside 40 aside]) [0, 1, 3] rfl
  have hDc := hD.sub (ws' := [oc h 9 [.ref h_s, .ref h_images, .int kept, .ref h_tape, .int typed, .ref h_draft, .int atv, .ref h_items, .ref h_moved, .ref h_sizes, .ref h_lanes, .ref h_less, .ref h_aside, .ref h_order], ai G h_s 161 sv, ai G h_aside 40 aside]) [0, 1, 3] (by decide) rfl
  have hFc := va_free (wc := [oc h 9 [.ref h_s, .ref h_images, .int kept, .ref h_tape, .int typed, .ref h_draft, .int atv, .ref h_items, .ref h_moved, .ref h_sizes, .ref h_lanes, .ref h_less, .ref h_aside, .ref h_order], ai G h_s 161 sv, ai G h_aside 40 aside]) hD hS hA [0, 1, 3] rfl
  refine va_callv (va_runV (As := []) (rest := []) ⟨hx, hb, hml, hown, hts⟩ (mt_X9_holds l G h h_s h_images h_tape h_draft h_items h_moved h_sizes h_lanes h_less h_aside h_order s.heap.size kept typed atv sv aside  _ hw) (cwV 0 hts (lw_V q1010 q1012 qs45 q65 q1013) rfl rfl rfl (by decide +kernel) ⟨Nat.le_of_ble_eq_true rfl, Nat.le_of_ble_eq_true rfl⟩) ⟨fun a U g mk q => by obtain ⟨q0, q1, qP, qK, qD⟩ := q; exact ⟨q0, q1, qP, qK.call, qD⟩, va_recv hK.1 hP (ci := 9) (q0 := 0) rfl rfl, fun U hU hW => ⟨rfl, by rw [hU], by rw [hU]; exact hPc, hK.warm hW, hDc.weaken (fun _ _ _ _ => trivial)⟩⟩ rfl rfl hl.1 rfl (lv_room (Nat.le_of_ble_eq_true rfl)) dX9_lonely_1 ⟨Nat.le_of_ble_eq_true rfl, Nat.le_of_ble_eq_true rfl⟩) hS (fun q _ h => hFc q h) hFc (fun u_1 t H1 locs ht hvm hw hB hz1 hk1 hS => ?_)
  obtain ⟨hP1, hD1⟩ := hB
  rw [ht] at hP1
  obtain ⟨hP, hD⟩ := va_join (wr := [ai G h_less 6 less]) (w1 := [oc h 9 [.ref h_s, .ref h_images, .int kept, .ref h_tape, .int typed, .ref h_draft, .int atv, .ref h_items, .ref h_moved, .ref h_sizes, .ref h_lanes, .ref h_less, .ref h_aside, .ref h_order], ai G h_s 161 sv, ai G h_aside 40 u_1]) hP hD [0, 1, 3] [2] rfl rfl (by decide) (by decide) hk1 hFc hP1 hD1
  clear hPc hDc hFc hP1 hD1 hz1 hk1 hvm
  generalize H1 = H at hP hS ⊢
  have hP : va_P G.1 gCl [ai G h_less 6 less, oc h 9 [.ref h_s, .ref h_images, .int kept, .ref h_tape, .int typed, .ref h_draft, .int atv, .ref h_items, .ref h_moved, .ref h_sizes, .ref h_lanes, .ref h_less, .ref h_aside, .ref h_order], ai G h_s 161 sv, ai G h_aside 40 u_1] H := hP
  have hD : va_D A [ai G h_less 6 less, oc h 9 [.ref h_s, .ref h_images, .int kept, .ref h_tape, .int typed, .ref h_draft, .int atv, .ref h_items, .ref h_moved, .ref h_sizes, .ref h_lanes, .ref h_less, .ref h_aside, .ref h_order], ai G h_s 161 sv, ai G h_aside 40 u_1] := hD
  refine lv_iconst (v := (0 : Int32)) hx hb dX9_lonely_4 (by decide) ?_
  refine lv_istore_n (lv' := [(1, .int (0 : Int32)), (0, .ref h)]) hx hb dX9_lonely_5 rfl hl (by decide) rfl (fun ls hl => ?_)
  obtain ⟨j_, hw⟩ := hw
  exact wk_X9_lonely_6 h h_s h_images h_tape h_draft h_items h_moved h_sizes h_lanes h_less h_aside h_order kept typed atv  Q  C  j_ sv less u_1 (0 : Int32) H locs (hP.sub [1, 2, 0, 3] rfl) (hD.sub [1, 2, 0, 3] (by decide) rfl) hS ls (lv_sub hl [1, 0] rfl) hw
/-! BattleBenchModel.close(II)I -/
def wp_X9_close_29 (p1 : Int32) (p2 : Int32) (Q : Int32 → ((Nat → Int32) × (Nat → Int32) × (Nat → Int32)) → Prop)  : Nat → (Nat → Int32) → (Nat → Int32) → (Nat → Int32) → Int32 → Prop
  | 0, _, _, _, _ => False
  | n + 1, sv, less, aside, x3 =>
    ((((60 : Int32) < x3) → wp_X9_lets sv aside  (fun u_2 => (((x3 ≤ (60 : Int32)) → Q x3 (u_2, less, aside)) ∧ (¬ (x3 ≤ (60 : Int32)) → Q (-4 : Int32) (u_2, less, aside))))) ∧ (¬ ((60 : Int32) < x3) → wp_X9_allSitBy sv p1 (fun r_4 => wp_X9_has  r_4 p2 (fun r_5 => ((¬ (r_5 = 0) → wp_X9_lets sv aside  (fun u_7 => (((x3 ≤ (60 : Int32)) → Q x3 (u_7, less, aside)) ∧ (¬ (x3 ≤ (60 : Int32)) → Q (-4 : Int32) (u_7, less, aside))))) ∧ ((r_5 = 0) → wp_X9_passes sv less  (fun u_9 => wp_X9_close_29 p1 p2 Q  n u_9.1 u_9.2 aside (x3 + (1 : Int32)))))))))
set_option maxHeartbeats 4000000 in
theorem wk_X9_close_29 {p : Program} {l : Launch} {e : Env} {s : State} {m : MethodId} {below : List Frame} {meth : Method} {c : Code} {args : Array Value} {G : GT} {A : Nat → Prop} (h h_s h_images h_tape h_draft h_items h_moved h_sizes h_lanes h_less h_aside h_order : Nat) (kept : Int32) (typed : Int32) (atv : Int32) (p1 : Int32) (p2 : Int32) (Q : Int32 → ((Nat → Int32) × (Nat → Int32) × (Nat → Int32)) → Prop)  (C : Cx p s m meth c cX9_close 4 (some .int) RX9 args G A)  :
    ∀ (n : Nat), ∀  (sv : Nat → Int32) (less : Nat → Int32) (aside : Nat → Int32) (x3 : Int32) (H : Heap) (locs : List Loc), va_P G.1 gCl [oc h 9 [.ref h_s, .ref h_images, .int kept, .ref h_tape, .int typed, .ref h_draft, .int atv, .ref h_items, .ref h_moved, .ref h_sizes, .ref h_lanes, .ref h_less, .ref h_aside, .ref h_order], ai G h_s 161 sv, ai G h_less 6 less, ai G h_aside 40 aside] H → va_D A [oc h 9 [.ref h_s, .ref h_images, .int kept, .ref h_tape, .int typed, .ref h_draft, .int atv, .ref h_items, .ref h_moved, .ref h_sizes, .ref h_lanes, .ref h_less, .ref h_aside, .ref h_order], ai G h_s 161 sv, ai G h_less 6 less, ai G h_aside 40 aside] → va_S A s.heap H locs → ∀ (ls : Array Slot), lv_has ls 4 [(0, .ref h), (1, .int p1), (2, .int p2), (3, .int x3)] → wp_X9_close_29 p1 p2 Q  n sv less aside x3 → W p l e ({ frames := 5, cells := 0, slots := 0, locals := 113 } : Room) s m args below meth c H locs 0 0 (MQ below (va_Qi (fun (r : Int32) (u : (Nat → Int32) × (Nat → Int32) × (Nat → Int32)) => Q r u) (fun u t => va_P G.1 gCl [oc h 9 [.ref h_s, .ref h_images, .int kept, .ref h_tape, .int typed, .ref h_draft, .int atv, .ref h_items, .ref h_moved, .ref h_sizes, .ref h_lanes, .ref h_less, .ref h_aside, .ref h_order], ai G h_s 161 u.1, ai G h_less 6 u.2.1, ai G h_aside 40 u.2.2] t.heap ∧ va_D A [oc h 9 [.ref h_s, .ref h_images, .int kept, .ref h_tape, .int typed, .ref h_draft, .int atv, .ref h_items, .ref h_moved, .ref h_sizes, .ref h_lanes, .ref h_less, .ref h_aside, .ref h_order], ai G h_s 161 u.1, ai G h_less 6 u.2.1, ai G h_aside 40 u.2.2]) A) args s 0 0 A) (F0 m 29 ls []) := by
  have C9 := C
  obtain ⟨hx, hb, hr, hlocks, hml, hown, hts, hK, hA⟩ := C9
  intro n
  induction n with
  | zero => intro sv less aside x3 H locs hP hD hS ls hl hw; exact False.elim hw
  | succ n ih =>
    intro sv less aside x3 H locs hP hD hS ls hl hw
    unfold wp_X9_close_29 at hw
    refine lv_iload_n hx hb dX9_close_29 rfl (lv_at hl 3 rfl) ?_
    refine lv_bipush (v := (60 : Int32)) hx hb dX9_close_30 (by decide) ?_
    refine lv_icmp_gt (tgt := 57) hx hb dX9_close_32 (by decide) (fun c_1 => ?_) (fun c_1 => ?_)
    · replace hw := hw.1 c_1
      refine lv_aload_n hx hb dX9_close_57 rfl (lv_at hl 0 rfl) ?_
      have hPc := hP.sub (ws' := [oc h 9 [.ref h_s, .ref h_images, .int kept, .ref h_tape, .int typed, .ref h_draft, .int atv, .ref h_items, .ref h_moved, .ref h_sizes, .ref h_lanes, .ref h_less, .ref h_aside, .ref h_order], ai G h_s 161 sv, ai G h_aside 40 aside]) [0, 1, 3] rfl
      have hDc := hD.sub (ws' := [oc h 9 [.ref h_s, .ref h_images, .int kept, .ref h_tape, .int typed, .ref h_draft, .int atv, .ref h_items, .ref h_moved, .ref h_sizes, .ref h_lanes, .ref h_less, .ref h_aside, .ref h_order], ai G h_s 161 sv, ai G h_aside 40 aside]) [0, 1, 3] (by decide) rfl
      have hFc := va_free (wc := [oc h 9 [.ref h_s, .ref h_images, .int kept, .ref h_tape, .int typed, .ref h_draft, .int atv, .ref h_items, .ref h_moved, .ref h_sizes, .ref h_lanes, .ref h_less, .ref h_aside, .ref h_order], ai G h_s 161 sv, ai G h_aside 40 aside]) hD hS hA [0, 1, 3] rfl
      refine va_callv (va_runV (As := []) (rest := []) ⟨hx, hb, hml, hown, hts⟩ (mt_X9_lets l G h h_s h_images h_tape h_draft h_items h_moved h_sizes h_lanes h_less h_aside h_order H.size kept typed atv sv aside  _ hw) (cwV 0 hts (lw_V q1014 q1016 qs46 q65 q1017) rfl rfl rfl (by decide +kernel) ⟨Nat.le_of_ble_eq_true rfl, Nat.le_of_ble_eq_true rfl⟩) ⟨fun a U g mk q => by obtain ⟨q0, q1, qP, qK, qD⟩ := q; exact ⟨q0, q1, qP, qK.call, qD⟩, va_recv hK.1 hP (ci := 9) (q0 := 0) rfl rfl, fun U hU hW => ⟨rfl, by rw [hU], by rw [hU]; exact hPc, hK.warm hW, hDc.weaken (fun _ _ _ _ => trivial)⟩⟩ rfl rfl hl.1 rfl (lv_room (Nat.le_of_ble_eq_true rfl)) dX9_close_58 ⟨Nat.le_of_ble_eq_true rfl, Nat.le_of_ble_eq_true rfl⟩) hS (fun q _ h => hFc q h) hFc (fun u_2 t H1 locs ht hvm hw hB hz1 hk1 hS => ?_)
      obtain ⟨hP1, hD1⟩ := hB
      rw [ht] at hP1
      obtain ⟨hP, hD⟩ := va_join (wr := [ai G h_less 6 less]) (w1 := [oc h 9 [.ref h_s, .ref h_images, .int kept, .ref h_tape, .int typed, .ref h_draft, .int atv, .ref h_items, .ref h_moved, .ref h_sizes, .ref h_lanes, .ref h_less, .ref h_aside, .ref h_order], ai G h_s 161 u_2, ai G h_aside 40 aside]) hP hD [0, 1, 3] [2] rfl rfl (by decide) (by decide) hk1 hFc hP1 hD1
      clear hPc hDc hFc hP1 hD1 hz1 hk1 hvm
      generalize H1 = H at hP hS ⊢
      have hP : va_P G.1 gCl [ai G h_less 6 less, oc h 9 [.ref h_s, .ref h_images, .int kept, .ref h_tape, .int typed, .ref h_draft, .int atv, .ref h_items, .ref h_moved, .ref h_sizes, .ref h_lanes, .ref h_less, .ref h_aside, .ref h_order], ai G h_s 161 u_2, ai G h_aside 40 aside] H := hP
      have hD : va_D A [ai G h_less 6 less, oc h 9 [.ref h_s, .ref h_images, .int kept, .ref h_tape, .int typed, .ref h_draft, .int atv, .ref h_items, .ref h_moved, .ref h_sizes, .ref h_lanes, .ref h_less, .ref h_aside, .ref h_order], ai G h_s 161 u_2, ai G h_aside 40 aside] := hD
      refine lv_iload_n hx hb dX9_close_61 rfl (lv_at hl 3 rfl) ?_
      refine lv_bipush (v := (60 : Int32)) hx hb dX9_close_62 (by decide) ?_
      refine lv_icmp_le (tgt := 72) hx hb dX9_close_64 (by decide) (fun c_3 => ?_) (fun c_3 => ?_)
      · replace hw := hw.1 c_3
        refine lv_iload_n hx hb dX9_close_72 rfl (lv_at hl 3 rfl) ?_
        have hP9 := hP.sub (ws' := [oc h 9 [.ref h_s, .ref h_images, .int kept, .ref h_tape, .int typed, .ref h_draft, .int atv, .ref h_items, .ref h_moved, .ref h_sizes, .ref h_lanes, .ref h_less, .ref h_aside, .ref h_order], ai G h_s 161 u_2, ai G h_less 6 less, ai G h_aside 40 aside]) [1, 2, 0, 3] rfl
        have hD9 := hD.sub (ws' := [oc h 9 [.ref h_s, .ref h_images, .int kept, .ref h_tape, .int typed, .ref h_draft, .int atv, .ref h_items, .ref h_moved, .ref h_sizes, .ref h_lanes, .ref h_less, .ref h_aside, .ref h_order], ai G h_s 161 u_2, ai G h_less 6 less, ai G h_aside 40 aside]) [1, 2, 0, 3] (by decide) rfl
        exact W.iret (v := x3) hx hb hr (fun t ht hW => ⟨⟨x3, (u_2, less, aside), rfl, hw, by rw [ht]; exact hP9, hD9⟩, hS.F ht⟩) hS.2.2 dX9_close_73
      · replace hw := hw.2 c_3
        refine lv_bipush (v := (-4 : Int32)) hx hb dX9_close_67 (by decide) ?_
        refine lv_goto (tgt := 73) hx hb dX9_close_69 (by decide) ?_
        have hP9 := hP.sub (ws' := [oc h 9 [.ref h_s, .ref h_images, .int kept, .ref h_tape, .int typed, .ref h_draft, .int atv, .ref h_items, .ref h_moved, .ref h_sizes, .ref h_lanes, .ref h_less, .ref h_aside, .ref h_order], ai G h_s 161 u_2, ai G h_less 6 less, ai G h_aside 40 aside]) [1, 2, 0, 3] rfl
        have hD9 := hD.sub (ws' := [oc h 9 [.ref h_s, .ref h_images, .int kept, .ref h_tape, .int typed, .ref h_draft, .int atv, .ref h_items, .ref h_moved, .ref h_sizes, .ref h_lanes, .ref h_less, .ref h_aside, .ref h_order], ai G h_s 161 u_2, ai G h_less 6 less, ai G h_aside 40 aside]) [1, 2, 0, 3] (by decide) rfl
        exact W.iret (v := (-4 : Int32)) hx hb hr (fun t ht hW => ⟨⟨(-4 : Int32), (u_2, less, aside), rfl, hw, by rw [ht]; exact hP9, hD9⟩, hS.F ht⟩) hS.2.2 dX9_close_73
    · replace hw := hw.2 c_1
      refine lv_aload_n hx hb dX9_close_35 rfl (lv_at hl 0 rfl) ?_
      refine lv_iload_n hx hb dX9_close_36 rfl (lv_at hl 1 rfl) ?_
      have hPc := hP.sub (ws' := [oc h 9 [.ref h_s, .ref h_images, .int kept, .ref h_tape, .int typed, .ref h_draft, .int atv, .ref h_items, .ref h_moved, .ref h_sizes, .ref h_lanes, .ref h_less, .ref h_aside, .ref h_order], ai G h_s 161 sv]) [0, 1] rfl
      have hDc := hD.sub (ws' := [oc h 9 [.ref h_s, .ref h_images, .int kept, .ref h_tape, .int typed, .ref h_draft, .int atv, .ref h_items, .ref h_moved, .ref h_sizes, .ref h_lanes, .ref h_less, .ref h_aside, .ref h_order], ai G h_s 161 sv]) [0, 1] (by decide) rfl
      have hFc := va_free (wc := [oc h 9 [.ref h_s, .ref h_images, .int kept, .ref h_tape, .int typed, .ref h_draft, .int atv, .ref h_items, .ref h_moved, .ref h_sizes, .ref h_lanes, .ref h_less, .ref h_aside, .ref h_order], ai G h_s 161 sv]) hD hS hA [0, 1] rfl
      refine va_calli (va_runV (As := [.int p1]) (rest := []) ⟨hx, hb, hml, hown, hts⟩ (mt_X9_allSitBy l G h h_s h_images h_tape h_draft h_items h_moved h_sizes h_lanes h_less h_aside h_order H.size kept typed atv sv p1 _ hw) (cwV 1 hts (lw_V q895 q897 qs31 q65 q898) rfl rfl rfl (by decide +kernel) ⟨Nat.le_of_ble_eq_true rfl, Nat.le_of_ble_eq_true rfl⟩) ⟨fun a U g mk q => by obtain ⟨q0, q1, qP, qK, qD⟩ := q; exact ⟨q0, q1, qP, qK.call, qD⟩, va_recv hK.1 hP (ci := 9) (q0 := 0) rfl rfl, fun U hU hW => ⟨rfl, by rw [hU], by rw [hU]; exact hPc, hK.warm hW, hDc.weaken (fun _ _ _ _ => trivial)⟩⟩ rfl rfl hl.1 rfl (lv_room (Nat.le_of_ble_eq_true rfl)) dX9_close_37 ⟨Nat.le_of_ble_eq_true rfl, Nat.le_of_ble_eq_true rfl⟩) hS (fun q _ h => hFc q h) hFc (fun r_4 _ t H1 locs ht hvm hw hB hz1 hk1 hS => ?_)
      obtain ⟨hP1, hD1⟩ := hB
      rw [ht] at hP1
      obtain ⟨hP, hD⟩ := va_join (wr := [ai G h_less 6 less, ai G h_aside 40 aside]) (w1 := [oc h 9 [.ref h_s, .ref h_images, .int kept, .ref h_tape, .int typed, .ref h_draft, .int atv, .ref h_items, .ref h_moved, .ref h_sizes, .ref h_lanes, .ref h_less, .ref h_aside, .ref h_order], ai G h_s 161 sv]) hP hD [0, 1] [2, 3] rfl rfl (by decide) (by decide) hk1 hFc hP1 hD1
      clear hPc hDc hFc hP1 hD1 hz1 hk1 hvm
      generalize H1 = H at hP hS ⊢
      have hP : va_P G.1 gCl [ai G h_less 6 less, ai G h_aside 40 aside, oc h 9 [.ref h_s, .ref h_images, .int kept, .ref h_tape, .int typed, .ref h_draft, .int atv, .ref h_items, .ref h_moved, .ref h_sizes, .ref h_lanes, .ref h_less, .ref h_aside, .ref h_order], ai G h_s 161 sv] H := hP
      have hD : va_D A [ai G h_less 6 less, ai G h_aside 40 aside, oc h 9 [.ref h_s, .ref h_images, .int kept, .ref h_tape, .int typed, .ref h_draft, .int atv, .ref h_items, .ref h_moved, .ref h_sizes, .ref h_lanes, .ref h_less, .ref h_aside, .ref h_order], ai G h_s 161 sv] := hD
      refine lv_iload_n hx hb dX9_close_40 rfl (lv_at hl 2 rfl) ?_
      have hPc := hP.sub (ws' := []) [] rfl
      have hDc := hD.sub (ws' := []) [] (by decide) rfl
      have hFc := va_free (wc := []) hD hS hA [] rfl
      refine va_calli (va_runS (As := [.int r_4, .int p2]) (rest := []) ⟨hx, hb, hml, hown, hts⟩ (mt_X9_has l G  H.size  r_4 p2 _ hw) (va_cwS 2 hts (lw_S q976 q977 q65 q978) rfl rfl rfl (by decide +kernel) ⟨Nat.le_of_ble_eq_true rfl, Nat.le_of_ble_eq_true rfl⟩) ⟨fun a U g mk q => by obtain ⟨q0, q1, qP, qK, qD⟩ := q; exact ⟨q0, q1, qP, qK.call, qD⟩, fun U hU hW => ⟨rfl, by rw [hU], by rw [hU]; exact hPc, hK.warm hW, hDc.weaken (fun _ _ _ _ => trivial)⟩⟩ rfl rfl hl.1 rfl (lv_room (Nat.le_of_ble_eq_true rfl)) dX9_close_41 ⟨Nat.le_of_ble_eq_true rfl, Nat.le_of_ble_eq_true rfl⟩) hS (fun q _ h => hFc q h) hFc (fun r_5 _ t H1 locs ht hvm hw hB hz1 hk1 hS => ?_)
      obtain ⟨hP1, hD1⟩ := hB
      rw [ht] at hP1
      obtain ⟨hP, hD⟩ := va_join (wr := [ai G h_less 6 less, ai G h_aside 40 aside, oc h 9 [.ref h_s, .ref h_images, .int kept, .ref h_tape, .int typed, .ref h_draft, .int atv, .ref h_items, .ref h_moved, .ref h_sizes, .ref h_lanes, .ref h_less, .ref h_aside, .ref h_order], ai G h_s 161 sv]) (w1 := []) hP hD [] [0, 1, 2, 3] rfl rfl (by decide) (by decide) hk1 hFc hP1 hD1
      clear hPc hDc hFc hP1 hD1 hz1 hk1 hvm
      generalize H1 = H at hP hS ⊢
      have hP : va_P G.1 gCl [ai G h_less 6 less, ai G h_aside 40 aside, oc h 9 [.ref h_s, .ref h_images, .int kept, .ref h_tape, .int typed, .ref h_draft, .int atv, .ref h_items, .ref h_moved, .ref h_sizes, .ref h_lanes, .ref h_less, .ref h_aside, .ref h_order], ai G h_s 161 sv] H := hP
      have hD : va_D A [ai G h_less 6 less, ai G h_aside 40 aside, oc h 9 [.ref h_s, .ref h_images, .int kept, .ref h_tape, .int typed, .ref h_draft, .int atv, .ref h_items, .ref h_moved, .ref h_sizes, .ref h_lanes, .ref h_less, .ref h_aside, .ref h_order], ai G h_s 161 sv] := hD
      refine lv_if_ne (tgt := 57) hx hb dX9_close_44 (by decide) (fun c_6 => ?_) (fun c_6 => ?_)
      · replace hw := hw.1 c_6
        refine lv_aload_n hx hb dX9_close_57 rfl (lv_at hl 0 rfl) ?_
        have hPc := hP.sub (ws' := [oc h 9 [.ref h_s, .ref h_images, .int kept, .ref h_tape, .int typed, .ref h_draft, .int atv, .ref h_items, .ref h_moved, .ref h_sizes, .ref h_lanes, .ref h_less, .ref h_aside, .ref h_order], ai G h_s 161 sv, ai G h_aside 40 aside]) [2, 3, 1] rfl
        have hDc := hD.sub (ws' := [oc h 9 [.ref h_s, .ref h_images, .int kept, .ref h_tape, .int typed, .ref h_draft, .int atv, .ref h_items, .ref h_moved, .ref h_sizes, .ref h_lanes, .ref h_less, .ref h_aside, .ref h_order], ai G h_s 161 sv, ai G h_aside 40 aside]) [2, 3, 1] (by decide) rfl
        have hFc := va_free (wc := [oc h 9 [.ref h_s, .ref h_images, .int kept, .ref h_tape, .int typed, .ref h_draft, .int atv, .ref h_items, .ref h_moved, .ref h_sizes, .ref h_lanes, .ref h_less, .ref h_aside, .ref h_order], ai G h_s 161 sv, ai G h_aside 40 aside]) hD hS hA [2, 3, 1] rfl
        refine va_callv (va_runV (As := []) (rest := []) ⟨hx, hb, hml, hown, hts⟩ (mt_X9_lets l G h h_s h_images h_tape h_draft h_items h_moved h_sizes h_lanes h_less h_aside h_order H.size kept typed atv sv aside  _ hw) (cwV 0 hts (lw_V q1014 q1016 qs46 q65 q1017) rfl rfl rfl (by decide +kernel) ⟨Nat.le_of_ble_eq_true rfl, Nat.le_of_ble_eq_true rfl⟩) ⟨fun a U g mk q => by obtain ⟨q0, q1, qP, qK, qD⟩ := q; exact ⟨q0, q1, qP, qK.call, qD⟩, va_recv hK.1 hP (ci := 9) (q0 := 2) rfl rfl, fun U hU hW => ⟨rfl, by rw [hU], by rw [hU]; exact hPc, hK.warm hW, hDc.weaken (fun _ _ _ _ => trivial)⟩⟩ rfl rfl hl.1 rfl (lv_room (Nat.le_of_ble_eq_true rfl)) dX9_close_58 ⟨Nat.le_of_ble_eq_true rfl, Nat.le_of_ble_eq_true rfl⟩) hS (fun q _ h => hFc q h) hFc (fun u_7 t H1 locs ht hvm hw hB hz1 hk1 hS => ?_)
        obtain ⟨hP1, hD1⟩ := hB
        rw [ht] at hP1
        obtain ⟨hP, hD⟩ := va_join (wr := [ai G h_less 6 less]) (w1 := [oc h 9 [.ref h_s, .ref h_images, .int kept, .ref h_tape, .int typed, .ref h_draft, .int atv, .ref h_items, .ref h_moved, .ref h_sizes, .ref h_lanes, .ref h_less, .ref h_aside, .ref h_order], ai G h_s 161 u_7, ai G h_aside 40 aside]) hP hD [2, 3, 1] [0] rfl rfl (by decide) (by decide) hk1 hFc hP1 hD1
        clear hPc hDc hFc hP1 hD1 hz1 hk1 hvm
        generalize H1 = H at hP hS ⊢
        have hP : va_P G.1 gCl [ai G h_less 6 less, oc h 9 [.ref h_s, .ref h_images, .int kept, .ref h_tape, .int typed, .ref h_draft, .int atv, .ref h_items, .ref h_moved, .ref h_sizes, .ref h_lanes, .ref h_less, .ref h_aside, .ref h_order], ai G h_s 161 u_7, ai G h_aside 40 aside] H := hP
        have hD : va_D A [ai G h_less 6 less, oc h 9 [.ref h_s, .ref h_images, .int kept, .ref h_tape, .int typed, .ref h_draft, .int atv, .ref h_items, .ref h_moved, .ref h_sizes, .ref h_lanes, .ref h_less, .ref h_aside, .ref h_order], ai G h_s 161 u_7, ai G h_aside 40 aside] := hD
        refine lv_iload_n hx hb dX9_close_61 rfl (lv_at hl 3 rfl) ?_
        refine lv_bipush (v := (60 : Int32)) hx hb dX9_close_62 (by decide) ?_
        refine lv_icmp_le (tgt := 72) hx hb dX9_close_64 (by decide) (fun c_8 => ?_) (fun c_8 => ?_)
        · replace hw := hw.1 c_8
          refine lv_iload_n hx hb dX9_close_72 rfl (lv_at hl 3 rfl) ?_
          have hP9 := hP.sub (ws' := [oc h 9 [.ref h_s, .ref h_images, .int kept, .ref h_tape, .int typed, .ref h_draft, .int atv, .ref h_items, .ref h_moved, .ref h_sizes, .ref h_lanes, .ref h_less, .ref h_aside, .ref h_order], ai G h_s 161 u_7, ai G h_less 6 less, ai G h_aside 40 aside]) [1, 2, 0, 3] rfl
          have hD9 := hD.sub (ws' := [oc h 9 [.ref h_s, .ref h_images, .int kept, .ref h_tape, .int typed, .ref h_draft, .int atv, .ref h_items, .ref h_moved, .ref h_sizes, .ref h_lanes, .ref h_less, .ref h_aside, .ref h_order], ai G h_s 161 u_7, ai G h_less 6 less, ai G h_aside 40 aside]) [1, 2, 0, 3] (by decide) rfl
          exact W.iret (v := x3) hx hb hr (fun t ht hW => ⟨⟨x3, (u_7, less, aside), rfl, hw, by rw [ht]; exact hP9, hD9⟩, hS.F ht⟩) hS.2.2 dX9_close_73
        · replace hw := hw.2 c_8
          refine lv_bipush (v := (-4 : Int32)) hx hb dX9_close_67 (by decide) ?_
          refine lv_goto (tgt := 73) hx hb dX9_close_69 (by decide) ?_
          have hP9 := hP.sub (ws' := [oc h 9 [.ref h_s, .ref h_images, .int kept, .ref h_tape, .int typed, .ref h_draft, .int atv, .ref h_items, .ref h_moved, .ref h_sizes, .ref h_lanes, .ref h_less, .ref h_aside, .ref h_order], ai G h_s 161 u_7, ai G h_less 6 less, ai G h_aside 40 aside]) [1, 2, 0, 3] rfl
          have hD9 := hD.sub (ws' := [oc h 9 [.ref h_s, .ref h_images, .int kept, .ref h_tape, .int typed, .ref h_draft, .int atv, .ref h_items, .ref h_moved, .ref h_sizes, .ref h_lanes, .ref h_less, .ref h_aside, .ref h_order], ai G h_s 161 u_7, ai G h_less 6 less, ai G h_aside 40 aside]) [1, 2, 0, 3] (by decide) rfl
          exact W.iret (v := (-4 : Int32)) hx hb hr (fun t ht hW => ⟨⟨(-4 : Int32), (u_7, less, aside), rfl, hw, by rw [ht]; exact hP9, hD9⟩, hS.F ht⟩) hS.2.2 dX9_close_73
      · replace hw := hw.2 c_6
        refine lv_aload_n hx hb dX9_close_47 rfl (lv_at hl 0 rfl) ?_
        have hPc := hP.sub (ws' := [oc h 9 [.ref h_s, .ref h_images, .int kept, .ref h_tape, .int typed, .ref h_draft, .int atv, .ref h_items, .ref h_moved, .ref h_sizes, .ref h_lanes, .ref h_less, .ref h_aside, .ref h_order], ai G h_s 161 sv, ai G h_less 6 less]) [2, 3, 0] rfl
        have hDc := hD.sub (ws' := [oc h 9 [.ref h_s, .ref h_images, .int kept, .ref h_tape, .int typed, .ref h_draft, .int atv, .ref h_items, .ref h_moved, .ref h_sizes, .ref h_lanes, .ref h_less, .ref h_aside, .ref h_order], ai G h_s 161 sv, ai G h_less 6 less]) [2, 3, 0] (by decide) rfl
        have hFc := va_free (wc := [oc h 9 [.ref h_s, .ref h_images, .int kept, .ref h_tape, .int typed, .ref h_draft, .int atv, .ref h_items, .ref h_moved, .ref h_sizes, .ref h_lanes, .ref h_less, .ref h_aside, .ref h_order], ai G h_s 161 sv, ai G h_less 6 less]) hD hS hA [2, 3, 0] rfl
        refine va_callv (va_runV (As := []) (rest := []) ⟨hx, hb, hml, hown, hts⟩ (mt_X9_passes l G h h_s h_images h_tape h_draft h_items h_moved h_sizes h_lanes h_less h_aside h_order H.size kept typed atv sv less  _ hw) (cwV 0 hts (lw_V q972 q974 qs43 q65 q975) rfl rfl rfl (by decide +kernel) ⟨Nat.le_of_ble_eq_true rfl, Nat.le_of_ble_eq_true rfl⟩) ⟨fun a U g mk q => by obtain ⟨q0, q1, qP, qK, qD⟩ := q; exact ⟨q0, q1, qP, qK.call, qD⟩, va_recv hK.1 hP (ci := 9) (q0 := 2) rfl rfl, fun U hU hW => ⟨rfl, by rw [hU], by rw [hU]; exact hPc, hK.warm hW, hDc.weaken (fun _ _ _ _ => trivial)⟩⟩ rfl rfl hl.1 rfl (lv_room (Nat.le_of_ble_eq_true rfl)) dX9_close_48 ⟨Nat.le_of_ble_eq_true rfl, Nat.le_of_ble_eq_true rfl⟩) hS (fun q _ h => hFc q h) hFc (fun u_9 t H1 locs ht hvm hw hB hz1 hk1 hS => ?_)
        obtain ⟨hP1, hD1⟩ := hB
        rw [ht] at hP1
        obtain ⟨hP, hD⟩ := va_join (wr := [ai G h_aside 40 aside]) (w1 := [oc h 9 [.ref h_s, .ref h_images, .int kept, .ref h_tape, .int typed, .ref h_draft, .int atv, .ref h_items, .ref h_moved, .ref h_sizes, .ref h_lanes, .ref h_less, .ref h_aside, .ref h_order], ai G h_s 161 u_9.1, ai G h_less 6 u_9.2]) hP hD [2, 3, 0] [1] rfl rfl (by decide) (by decide) hk1 hFc hP1 hD1
        clear hPc hDc hFc hP1 hD1 hz1 hk1 hvm
        generalize H1 = H at hP hS ⊢
        have hP : va_P G.1 gCl [ai G h_aside 40 aside, oc h 9 [.ref h_s, .ref h_images, .int kept, .ref h_tape, .int typed, .ref h_draft, .int atv, .ref h_items, .ref h_moved, .ref h_sizes, .ref h_lanes, .ref h_less, .ref h_aside, .ref h_order], ai G h_s 161 u_9.1, ai G h_less 6 u_9.2] H := hP
        have hD : va_D A [ai G h_aside 40 aside, oc h 9 [.ref h_s, .ref h_images, .int kept, .ref h_tape, .int typed, .ref h_draft, .int atv, .ref h_items, .ref h_moved, .ref h_sizes, .ref h_lanes, .ref h_less, .ref h_aside, .ref h_order], ai G h_s 161 u_9.1, ai G h_less 6 u_9.2] := hD
        refine lv_iinc (v := (x3 + (1 : Int32))) (lv' := [(3, .int (x3 + (1 : Int32))), (0, .ref h), (1, .int p1), (2, .int p2)]) hx hb dX9_close_51 hl (k := 3) rfl rfl (by decide) rfl (fun ls hl => ?_)
        refine lv_goto (tgt := 29) hx hb dX9_close_54 (by decide) ?_
        exact ih u_9.1 u_9.2 aside (x3 + (1 : Int32)) H locs (hP.sub [1, 2, 3, 0] rfl) (hD.sub [1, 2, 3, 0] (by decide) rfl) hS ls (lv_sub hl [1, 2, 3, 0] rfl) hw
def wp_X9_close (sv : Nat → Int32) (less : Nat → Int32) (aside : Nat → Int32) (p1 : Int32) (p2 : Int32) (Q : Int32 → ((Nat → Int32) × (Nat → Int32) × (Nat → Int32)) → Prop) : Prop :=
  wp_X9_isMan sv p1 (fun r_1 => (((r_1 = 0) → Q (-1 : Int32) (sv, less, aside)) ∧ (¬ (r_1 = 0) → wp_X9_isMan sv p2 (fun r_3 => (((r_3 = 0) → Q (-1 : Int32) (sv, less, aside)) ∧ (¬ (r_3 = 0) → ((¬ (p1 = p2) → wp_X9_holds sv aside  (fun u_6 => (∃ j_ : Nat, wp_X9_close_29 p1 p2 Q  j_ sv less u_6 (0 : Int32)))) ∧ ((p1 = p2) → Q (-1 : Int32) (sv, less, aside)))))))))
set_option maxHeartbeats 4000000 in
theorem mt_X9_close (l : Launch) (G : GT) (h h_s h_images h_tape h_draft h_items h_moved h_sizes h_lanes h_less h_aside h_order : Nat) (sz : Nat) (kept : Int32) (typed : Int32) (atv : Int32) (sv : Nat → Int32) (less : Nat → Int32) (aside : Nat → Int32) (p1 : Int32) (p2 : Int32) (Q : Int32 → ((Nat → Int32) × (Nat → Int32) × (Nat → Int32)) → Prop) (hw : wp_X9_close sv less aside p1 p2 Q) : Met l yX9_close (ws_ yX9_close cX9_close 4 (some .int)) ({ frames := 5, cells := 0, slots := 0, locals := 113 } : Room) (va_Pc [.ref h, .int p1, .int p2] (fun U => U.heap.size = sz ∧ va_P G.1 gCl [oc h 9 [.ref h_s, .ref h_images, .int kept, .ref h_tape, .int typed, .ref h_draft, .int atv, .ref h_items, .ref h_moved, .ref h_sizes, .ref h_lanes, .ref h_less, .ref h_aside, .ref h_order], ai G h_s 161 sv, ai G h_less 6 less, ai G h_aside 40 aside] U.heap ∧ gK G U ∧ va_D (fun _ => True) [oc h 9 [.ref h_s, .ref h_images, .int kept, .ref h_tape, .int typed, .ref h_draft, .int atv, .ref h_items, .ref h_moved, .ref h_sizes, .ref h_lanes, .ref h_less, .ref h_aside, .ref h_order], ai G h_s 161 sv, ai G h_less 6 less, ai G h_aside 40 aside])) ((fun A => (va_Qi (fun (r : Int32) (u : (Nat → Int32) × (Nat → Int32) × (Nat → Int32)) => Q r u) (fun u t => va_P G.1 gCl [oc h 9 [.ref h_s, .ref h_images, .int kept, .ref h_tape, .int typed, .ref h_draft, .int atv, .ref h_items, .ref h_moved, .ref h_sizes, .ref h_lanes, .ref h_less, .ref h_aside, .ref h_order], ai G h_s 161 u.1, ai G h_less 6 u.2.1, ai G h_aside 40 u.2.2] t.heap ∧ va_D A [oc h 9 [.ref h_s, .ref h_images, .int kept, .ref h_tape, .int typed, .ref h_draft, .int atv, .ref h_items, .ref h_moved, .ref h_sizes, .ref h_lanes, .ref h_less, .ref h_aside, .ref h_order], ai G h_s 161 u.1, ai G h_less 6 u.2.1, ai G h_aside 40 u.2.2]) A)) (va_A [oc h 9 [.ref h_s, .ref h_images, .int kept, .ref h_tape, .int typed, .ref h_draft, .int atv, .ref h_items, .ref h_moved, .ref h_sizes, .ref h_lanes, .ref h_less, .ref h_aside, .ref h_order], ai G h_s 161 sv, ai G h_less 6 less, ai G h_aside 40 aside] sz)) 0 0 (va_A [oc h 9 [.ref h_s, .ref h_images, .int kept, .ref h_tape, .int typed, .ref h_draft, .int atv, .ref h_items, .ref h_moved, .ref h_sizes, .ref h_lanes, .ref h_less, .ref h_aside, .ref h_order], ai G h_s 161 sv, ai G h_less 6 less, ai G h_aside 40 aside] sz) := by
  refine Met.ofW (cc := cX9_close) (maxL := 4) (ret := (some .int)) (by decide) rfl ?_
  intro p e s m args below meth c s₁ B hml hv
  obtain ⟨rfl, hsz, hP, hK, hD0⟩ := hv
  have hx := B.exec
  have hb := B.bytes
  have hr := B.returns
  have hts := atoms_spec (ws := (ws_ yX9_close cX9_close 4 (some .int))) B.pre
  have hts : ∀ w ∈ lw_all, w.before _ s = true := fun w h => hts w (List.mem_cons_of_mem _ h)
  have hown : s.vm.findClass RX9 = some m.cls := findClass_of_methodNamed B.named
  have hlocks := B.notSynchronized
  subst hsz
  have hD := hD0.self (sz := s.heap.size)
  generalize hAe : va_A [oc h 9 [.ref h_s, .ref h_images, .int kept, .ref h_tape, .int typed, .ref h_draft, .int atv, .ref h_items, .ref h_moved, .ref h_sizes, .ref h_lanes, .ref h_less, .ref h_aside, .ref h_order], ai G h_s 161 sv, ai G h_less 6 less, ai G h_aside 40 aside] s.heap.size = A at hD ⊢
  have hA : ∀ q : Nat, s.heap.size ≤ q → A q := fun q h => by rw [← hAe]; exact Or.inr h
  have hS : va_S A s.heap s.heap [] := va_S.rf
  have C : Cx p s m meth c cX9_close 4 (some .int) RX9 ([.ref h, .int p1, .int p2] : List Value).toArray G A := ⟨hx, hb, hr, hlocks, hml, hown, hts, hK, hA⟩
  have hl := lv_entry ([.ref h, .int p1, .int p2]) (n := 4) (Nat.le_of_ble_eq_true rfl)
  rw [lg_entry_eq]
  generalize (lg_sl ([.ref h, .int p1, .int p2]) ++ List.replicate (4 - (lg_sl ([.ref h, .int p1, .int p2])).length) Slot.unset).toArray = ls at hl ⊢
  have hl : lv_has ls 4 [(0, .ref h), (1, .int p1), (2, .int p2)] := hl
  unfold wp_X9_close at hw
  refine lv_aload_n hx hb dX9_close_0 rfl (lv_at hl 0 rfl) ?_
  refine lv_iload_n hx hb dX9_close_1 rfl (lv_at hl 1 rfl) ?_
  have hPc := hP.sub (ws' := [oc h 9 [.ref h_s, .ref h_images, .int kept, .ref h_tape, .int typed, .ref h_draft, .int atv, .ref h_items, .ref h_moved, .ref h_sizes, .ref h_lanes, .ref h_less, .ref h_aside, .ref h_order], ai G h_s 161 sv]) [0, 1] rfl
  have hDc := hD.sub (ws' := [oc h 9 [.ref h_s, .ref h_images, .int kept, .ref h_tape, .int typed, .ref h_draft, .int atv, .ref h_items, .ref h_moved, .ref h_sizes, .ref h_lanes, .ref h_less, .ref h_aside, .ref h_order], ai G h_s 161 sv]) [0, 1] (by decide) rfl
  have hFc := va_free (wc := [oc h 9 [.ref h_s, .ref h_images, .int kept, .ref h_tape, .int typed, .ref h_draft, .int atv, .ref h_items, .ref h_moved, .ref h_sizes, .ref h_lanes, .ref h_less, .ref h_aside, .ref h_order], ai G h_s 161 sv]) hD hS hA [0, 1] rfl
  refine va_calli (va_runV (As := [.int p1]) (rest := []) ⟨hx, hb, hml, hown, hts⟩ (mt_X9_isMan l G h h_s h_images h_tape h_draft h_items h_moved h_sizes h_lanes h_less h_aside h_order s.heap.size kept typed atv sv p1 _ hw) (cwV 1 hts (lw_V q875 q877 qs27 q65 q878) rfl rfl rfl (by decide +kernel) ⟨Nat.le_of_ble_eq_true rfl, Nat.le_of_ble_eq_true rfl⟩) ⟨fun a U g mk q => by obtain ⟨q0, q1, qP, qK, qD⟩ := q; exact ⟨q0, q1, qP, qK.call, qD⟩, va_recv hK.1 hP (ci := 9) (q0 := 0) rfl rfl, fun U hU hW => ⟨rfl, by rw [hU], by rw [hU]; exact hPc, hK.warm hW, hDc.weaken (fun _ _ _ _ => trivial)⟩⟩ rfl rfl hl.1 rfl (lv_room (Nat.le_of_ble_eq_true rfl)) dX9_close_2 ⟨Nat.le_of_ble_eq_true rfl, Nat.le_of_ble_eq_true rfl⟩) hS (fun q _ h => hFc q h) hFc (fun r_1 _ t H1 locs ht hvm hw hB hz1 hk1 hS => ?_)
  obtain ⟨hP1, hD1⟩ := hB
  rw [ht] at hP1
  obtain ⟨hP, hD⟩ := va_join (wr := [ai G h_less 6 less, ai G h_aside 40 aside]) (w1 := [oc h 9 [.ref h_s, .ref h_images, .int kept, .ref h_tape, .int typed, .ref h_draft, .int atv, .ref h_items, .ref h_moved, .ref h_sizes, .ref h_lanes, .ref h_less, .ref h_aside, .ref h_order], ai G h_s 161 sv]) hP hD [0, 1] [2, 3] rfl rfl (by decide) (by decide) hk1 hFc hP1 hD1
  clear hPc hDc hFc hP1 hD1 hz1 hk1 hvm
  generalize H1 = H at hP hS ⊢
  have hP : va_P G.1 gCl [ai G h_less 6 less, ai G h_aside 40 aside, oc h 9 [.ref h_s, .ref h_images, .int kept, .ref h_tape, .int typed, .ref h_draft, .int atv, .ref h_items, .ref h_moved, .ref h_sizes, .ref h_lanes, .ref h_less, .ref h_aside, .ref h_order], ai G h_s 161 sv] H := hP
  have hD : va_D A [ai G h_less 6 less, ai G h_aside 40 aside, oc h 9 [.ref h_s, .ref h_images, .int kept, .ref h_tape, .int typed, .ref h_draft, .int atv, .ref h_items, .ref h_moved, .ref h_sizes, .ref h_lanes, .ref h_less, .ref h_aside, .ref h_order], ai G h_s 161 sv] := hD
  refine lv_if_eq (tgt := 21) hx hb dX9_close_5 (by decide) (fun c_2 => ?_) (fun c_2 => ?_)
  · replace hw := hw.1 c_2
    refine lv_iconst (v := (-1 : Int32)) hx hb dX9_close_21 (by decide) ?_
    have hP9 := hP.sub (ws' := [oc h 9 [.ref h_s, .ref h_images, .int kept, .ref h_tape, .int typed, .ref h_draft, .int atv, .ref h_items, .ref h_moved, .ref h_sizes, .ref h_lanes, .ref h_less, .ref h_aside, .ref h_order], ai G h_s 161 sv, ai G h_less 6 less, ai G h_aside 40 aside]) [2, 3, 0, 1] rfl
    have hD9 := hD.sub (ws' := [oc h 9 [.ref h_s, .ref h_images, .int kept, .ref h_tape, .int typed, .ref h_draft, .int atv, .ref h_items, .ref h_moved, .ref h_sizes, .ref h_lanes, .ref h_less, .ref h_aside, .ref h_order], ai G h_s 161 sv, ai G h_less 6 less, ai G h_aside 40 aside]) [2, 3, 0, 1] (by decide) rfl
    exact W.iret (v := (-1 : Int32)) hx hb hr (fun t ht hW => ⟨⟨(-1 : Int32), (sv, less, aside), rfl, hw, by rw [ht]; exact hP9, hD9⟩, hS.F ht⟩) hS.2.2 dX9_close_22
  · replace hw := hw.2 c_2
    refine lv_aload_n hx hb dX9_close_8 rfl (lv_at hl 0 rfl) ?_
    refine lv_iload_n hx hb dX9_close_9 rfl (lv_at hl 2 rfl) ?_
    have hPc := hP.sub (ws' := [oc h 9 [.ref h_s, .ref h_images, .int kept, .ref h_tape, .int typed, .ref h_draft, .int atv, .ref h_items, .ref h_moved, .ref h_sizes, .ref h_lanes, .ref h_less, .ref h_aside, .ref h_order], ai G h_s 161 sv]) [2, 3] rfl
    have hDc := hD.sub (ws' := [oc h 9 [.ref h_s, .ref h_images, .int kept, .ref h_tape, .int typed, .ref h_draft, .int atv, .ref h_items, .ref h_moved, .ref h_sizes, .ref h_lanes, .ref h_less, .ref h_aside, .ref h_order], ai G h_s 161 sv]) [2, 3] (by decide) rfl
    have hFc := va_free (wc := [oc h 9 [.ref h_s, .ref h_images, .int kept, .ref h_tape, .int typed, .ref h_draft, .int atv, .ref h_items, .ref h_moved, .ref h_sizes, .ref h_lanes, .ref h_less, .ref h_aside, .ref h_order], ai G h_s 161 sv]) hD hS hA [2, 3] rfl
    refine va_calli (va_runV (As := [.int p2]) (rest := []) ⟨hx, hb, hml, hown, hts⟩ (mt_X9_isMan l G h h_s h_images h_tape h_draft h_items h_moved h_sizes h_lanes h_less h_aside h_order H.size kept typed atv sv p2 _ hw) (cwV 1 hts (lw_V q875 q877 qs27 q65 q878) rfl rfl rfl (by decide +kernel) ⟨Nat.le_of_ble_eq_true rfl, Nat.le_of_ble_eq_true rfl⟩) ⟨fun a U g mk q => by obtain ⟨q0, q1, qP, qK, qD⟩ := q; exact ⟨q0, q1, qP, qK.call, qD⟩, va_recv hK.1 hP (ci := 9) (q0 := 2) rfl rfl, fun U hU hW => ⟨rfl, by rw [hU], by rw [hU]; exact hPc, hK.warm hW, hDc.weaken (fun _ _ _ _ => trivial)⟩⟩ rfl rfl hl.1 rfl (lv_room (Nat.le_of_ble_eq_true rfl)) dX9_close_10 ⟨Nat.le_of_ble_eq_true rfl, Nat.le_of_ble_eq_true rfl⟩) hS (fun q _ h => hFc q h) hFc (fun r_3 _ t H1 locs ht hvm hw hB hz1 hk1 hS => ?_)
    obtain ⟨hP1, hD1⟩ := hB
    rw [ht] at hP1
    obtain ⟨hP, hD⟩ := va_join (wr := [ai G h_less 6 less, ai G h_aside 40 aside]) (w1 := [oc h 9 [.ref h_s, .ref h_images, .int kept, .ref h_tape, .int typed, .ref h_draft, .int atv, .ref h_items, .ref h_moved, .ref h_sizes, .ref h_lanes, .ref h_less, .ref h_aside, .ref h_order], ai G h_s 161 sv]) hP hD [2, 3] [0, 1] rfl rfl (by decide) (by decide) hk1 hFc hP1 hD1
    clear hPc hDc hFc hP1 hD1 hz1 hk1 hvm
    generalize H1 = H at hP hS ⊢
    have hP : va_P G.1 gCl [ai G h_less 6 less, ai G h_aside 40 aside, oc h 9 [.ref h_s, .ref h_images, .int kept, .ref h_tape, .int typed, .ref h_draft, .int atv, .ref h_items, .ref h_moved, .ref h_sizes, .ref h_lanes, .ref h_less, .ref h_aside, .ref h_order], ai G h_s 161 sv] H := hP
    have hD : va_D A [ai G h_less 6 less, ai G h_aside 40 aside, oc h 9 [.ref h_s, .ref h_images, .int kept, .ref h_tape, .int typed, .ref h_draft, .int atv, .ref h_items, .ref h_moved, .ref h_sizes, .ref h_lanes, .ref h_less, .ref h_aside, .ref h_order], ai G h_s 161 sv] := hD
    refine lv_if_eq (tgt := 21) hx hb dX9_close_13 (by decide) (fun c_4 => ?_) (fun c_4 => ?_)
    · replace hw := hw.1 c_4
      refine lv_iconst (v := (-1 : Int32)) hx hb dX9_close_21 (by decide) ?_
      have hP9 := hP.sub (ws' := [oc h 9 [.ref h_s, .ref h_images, .int kept, .ref h_tape, .int typed, .ref h_draft, .int atv, .ref h_items, .ref h_moved, .ref h_sizes, .ref h_lanes, .ref h_less, .ref h_aside, .ref h_order], ai G h_s 161 sv, ai G h_less 6 less, ai G h_aside 40 aside]) [2, 3, 0, 1] rfl
      have hD9 := hD.sub (ws' := [oc h 9 [.ref h_s, .ref h_images, .int kept, .ref h_tape, .int typed, .ref h_draft, .int atv, .ref h_items, .ref h_moved, .ref h_sizes, .ref h_lanes, .ref h_less, .ref h_aside, .ref h_order], ai G h_s 161 sv, ai G h_less 6 less, ai G h_aside 40 aside]) [2, 3, 0, 1] (by decide) rfl
      exact W.iret (v := (-1 : Int32)) hx hb hr (fun t ht hW => ⟨⟨(-1 : Int32), (sv, less, aside), rfl, hw, by rw [ht]; exact hP9, hD9⟩, hS.F ht⟩) hS.2.2 dX9_close_22
    · replace hw := hw.2 c_4
      refine lv_iload_n hx hb dX9_close_16 rfl (lv_at hl 1 rfl) ?_
      refine lv_iload_n hx hb dX9_close_17 rfl (lv_at hl 2 rfl) ?_
      refine lv_icmp_ne (tgt := 23) hx hb dX9_close_18 (by decide) (fun c_5 => ?_) (fun c_5 => ?_)
      · replace hw := hw.1 c_5
        refine lv_aload_n hx hb dX9_close_23 rfl (lv_at hl 0 rfl) ?_
        have hPc := hP.sub (ws' := [oc h 9 [.ref h_s, .ref h_images, .int kept, .ref h_tape, .int typed, .ref h_draft, .int atv, .ref h_items, .ref h_moved, .ref h_sizes, .ref h_lanes, .ref h_less, .ref h_aside, .ref h_order], ai G h_s 161 sv, ai G h_aside 40 aside]) [2, 3, 1] rfl
        have hDc := hD.sub (ws' := [oc h 9 [.ref h_s, .ref h_images, .int kept, .ref h_tape, .int typed, .ref h_draft, .int atv, .ref h_items, .ref h_moved, .ref h_sizes, .ref h_lanes, .ref h_less, .ref h_aside, .ref h_order], ai G h_s 161 sv, ai G h_aside 40 aside]) [2, 3, 1] (by decide) rfl
        have hFc := va_free (wc := [oc h 9 [.ref h_s, .ref h_images, .int kept, .ref h_tape, .int typed, .ref h_draft, .int atv, .ref h_items, .ref h_moved, .ref h_sizes, .ref h_lanes, .ref h_less, .ref h_aside, .ref h_order], ai G h_s 161 sv, ai G h_aside 40 aside]) hD hS hA [2, 3, 1] rfl
        refine va_callv (va_runV (As := []) (rest := []) ⟨hx, hb, hml, hown, hts⟩ (mt_X9_holds l G h h_s h_images h_tape h_draft h_items h_moved h_sizes h_lanes h_less h_aside h_order H.size kept typed atv sv aside  _ hw) (cwV 0 hts (lw_V q1010 q1012 qs45 q65 q1013) rfl rfl rfl (by decide +kernel) ⟨Nat.le_of_ble_eq_true rfl, Nat.le_of_ble_eq_true rfl⟩) ⟨fun a U g mk q => by obtain ⟨q0, q1, qP, qK, qD⟩ := q; exact ⟨q0, q1, qP, qK.call, qD⟩, va_recv hK.1 hP (ci := 9) (q0 := 2) rfl rfl, fun U hU hW => ⟨rfl, by rw [hU], by rw [hU]; exact hPc, hK.warm hW, hDc.weaken (fun _ _ _ _ => trivial)⟩⟩ rfl rfl hl.1 rfl (lv_room (Nat.le_of_ble_eq_true rfl)) dX9_close_24 ⟨Nat.le_of_ble_eq_true rfl, Nat.le_of_ble_eq_true rfl⟩) hS (fun q _ h => hFc q h) hFc (fun u_6 t H1 locs ht hvm hw hB hz1 hk1 hS => ?_)
        obtain ⟨hP1, hD1⟩ := hB
        rw [ht] at hP1
        obtain ⟨hP, hD⟩ := va_join (wr := [ai G h_less 6 less]) (w1 := [oc h 9 [.ref h_s, .ref h_images, .int kept, .ref h_tape, .int typed, .ref h_draft, .int atv, .ref h_items, .ref h_moved, .ref h_sizes, .ref h_lanes, .ref h_less, .ref h_aside, .ref h_order], ai G h_s 161 sv, ai G h_aside 40 u_6]) hP hD [2, 3, 1] [0] rfl rfl (by decide) (by decide) hk1 hFc hP1 hD1
        clear hPc hDc hFc hP1 hD1 hz1 hk1 hvm
        generalize H1 = H at hP hS ⊢
        have hP : va_P G.1 gCl [ai G h_less 6 less, oc h 9 [.ref h_s, .ref h_images, .int kept, .ref h_tape, .int typed, .ref h_draft, .int atv, .ref h_items, .ref h_moved, .ref h_sizes, .ref h_lanes, .ref h_less, .ref h_aside, .ref h_order], ai G h_s 161 sv, ai G h_aside 40 u_6] H := hP
        have hD : va_D A [ai G h_less 6 less, oc h 9 [.ref h_s, .ref h_images, .int kept, .ref h_tape, .int typed, .ref h_draft, .int atv, .ref h_items, .ref h_moved, .ref h_sizes, .ref h_lanes, .ref h_less, .ref h_aside, .ref h_order], ai G h_s 161 sv, ai G h_aside 40 u_6] := hD
        refine lv_iconst (v := (0 : Int32)) hx hb dX9_close_27 (by decide) ?_
        refine lv_istore_n (lv' := [(3, .int (0 : Int32)), (0, .ref h), (1, .int p1), (2, .int p2)]) hx hb dX9_close_28 rfl hl (by decide) rfl (fun ls hl => ?_)
        obtain ⟨j_, hw⟩ := hw
        exact wk_X9_close_29 h h_s h_images h_tape h_draft h_items h_moved h_sizes h_lanes h_less h_aside h_order kept typed atv p1 p2  Q  C  j_ sv less u_6 (0 : Int32) H locs (hP.sub [1, 2, 0, 3] rfl) (hD.sub [1, 2, 0, 3] (by decide) rfl) hS ls (lv_sub hl [1, 2, 3, 0] rfl) hw
      · replace hw := hw.2 c_5
        refine lv_iconst (v := (-1 : Int32)) hx hb dX9_close_21 (by decide) ?_
        have hP9 := hP.sub (ws' := [oc h 9 [.ref h_s, .ref h_images, .int kept, .ref h_tape, .int typed, .ref h_draft, .int atv, .ref h_items, .ref h_moved, .ref h_sizes, .ref h_lanes, .ref h_less, .ref h_aside, .ref h_order], ai G h_s 161 sv, ai G h_less 6 less, ai G h_aside 40 aside]) [2, 3, 0, 1] rfl
        have hD9 := hD.sub (ws' := [oc h 9 [.ref h_s, .ref h_images, .int kept, .ref h_tape, .int typed, .ref h_draft, .int atv, .ref h_items, .ref h_moved, .ref h_sizes, .ref h_lanes, .ref h_less, .ref h_aside, .ref h_order], ai G h_s 161 sv, ai G h_less 6 less, ai G h_aside 40 aside]) [2, 3, 0, 1] (by decide) rfl
        exact W.iret (v := (-1 : Int32)) hx hb hr (fun t ht hW => ⟨⟨(-1 : Int32), (sv, less, aside), rfl, hw, by rw [ht]; exact hP9, hD9⟩, hS.F ht⟩) hS.2.2 dX9_close_22
/-! BattleBenchModel.placeOn(II)I -/
def wp_X9_placeOn (sv : Nat → Int32) (p1 : Int32) (p2 : Int32) (Q : Int32 → Prop) : Prop :=
  (vp_in ((10 : Int32) + p1) 161 ∧ (vp_in (((22 : Int32) + ((3 : Int32) * (sv (((10 : Int32) + p1)).toNatClampNeg))) + p2) 161 ∧ Q (sv ((((22 : Int32) + ((3 : Int32) * (sv (((10 : Int32) + p1)).toNatClampNeg))) + p2)).toNatClampNeg)))
set_option maxHeartbeats 4000000 in
theorem mt_X9_placeOn (l : Launch) (G : GT) (h h_s h_images h_tape h_draft h_items h_moved h_sizes h_lanes h_less h_aside h_order : Nat) (sz : Nat) (kept : Int32) (typed : Int32) (atv : Int32) (sv : Nat → Int32) (p1 : Int32) (p2 : Int32) (Q : Int32 → Prop) (hw : wp_X9_placeOn sv p1 p2 Q) : Met l yX9_placeOn (ws_ yX9_placeOn cX9_placeOn 3 (some .int)) ({ frames := 0, cells := 0, slots := 0, locals := 0 } : Room) (va_Pc [.ref h, .int p1, .int p2] (fun U => U.heap.size = sz ∧ va_P G.1 gCl [oc h 9 [.ref h_s, .ref h_images, .int kept, .ref h_tape, .int typed, .ref h_draft, .int atv, .ref h_items, .ref h_moved, .ref h_sizes, .ref h_lanes, .ref h_less, .ref h_aside, .ref h_order], ai G h_s 161 sv] U.heap ∧ gK G U ∧ va_D (fun _ => True) [oc h 9 [.ref h_s, .ref h_images, .int kept, .ref h_tape, .int typed, .ref h_draft, .int atv, .ref h_items, .ref h_moved, .ref h_sizes, .ref h_lanes, .ref h_less, .ref h_aside, .ref h_order], ai G h_s 161 sv])) ((fun A => (va_Qi (fun (r : Int32) (u : Unit) => Q r ) (fun u t => va_P G.1 gCl [oc h 9 [.ref h_s, .ref h_images, .int kept, .ref h_tape, .int typed, .ref h_draft, .int atv, .ref h_items, .ref h_moved, .ref h_sizes, .ref h_lanes, .ref h_less, .ref h_aside, .ref h_order], ai G h_s 161 sv] t.heap ∧ va_D A [oc h 9 [.ref h_s, .ref h_images, .int kept, .ref h_tape, .int typed, .ref h_draft, .int atv, .ref h_items, .ref h_moved, .ref h_sizes, .ref h_lanes, .ref h_less, .ref h_aside, .ref h_order], ai G h_s 161 sv]) A)) (va_A [oc h 9 [.ref h_s, .ref h_images, .int kept, .ref h_tape, .int typed, .ref h_draft, .int atv, .ref h_items, .ref h_moved, .ref h_sizes, .ref h_lanes, .ref h_less, .ref h_aside, .ref h_order], ai G h_s 161 sv] sz)) 0 0 (va_A [oc h 9 [.ref h_s, .ref h_images, .int kept, .ref h_tape, .int typed, .ref h_draft, .int atv, .ref h_items, .ref h_moved, .ref h_sizes, .ref h_lanes, .ref h_less, .ref h_aside, .ref h_order], ai G h_s 161 sv] sz) := by
  refine Met.ofW (cc := cX9_placeOn) (maxL := 3) (ret := (some .int)) (by decide) rfl ?_
  intro p e s m args below meth c s₁ B hml hv
  obtain ⟨rfl, hsz, hP, hK, hD0⟩ := hv
  have hx := B.exec
  have hb := B.bytes
  have hr := B.returns
  have hts := atoms_spec (ws := (ws_ yX9_placeOn cX9_placeOn 3 (some .int))) B.pre
  have hts : ∀ w ∈ lw_all, w.before _ s = true := fun w h => hts w (List.mem_cons_of_mem _ h)
  have hown : s.vm.findClass RX9 = some m.cls := findClass_of_methodNamed B.named
  have hlocks := B.notSynchronized
  subst hsz
  have hD := hD0.self (sz := s.heap.size)
  generalize hAe : va_A [oc h 9 [.ref h_s, .ref h_images, .int kept, .ref h_tape, .int typed, .ref h_draft, .int atv, .ref h_items, .ref h_moved, .ref h_sizes, .ref h_lanes, .ref h_less, .ref h_aside, .ref h_order], ai G h_s 161 sv] s.heap.size = A at hD ⊢
  have hA : ∀ q : Nat, s.heap.size ≤ q → A q := fun q h => by rw [← hAe]; exact Or.inr h
  have hS : va_S A s.heap s.heap [] := va_S.rf
  have C : Cx p s m meth c cX9_placeOn 3 (some .int) RX9 ([.ref h, .int p1, .int p2] : List Value).toArray G A := ⟨hx, hb, hr, hlocks, hml, hown, hts, hK, hA⟩
  have hl := lv_entry ([.ref h, .int p1, .int p2]) (n := 3) (Nat.le_of_ble_eq_true rfl)
  rw [lg_entry_eq]
  generalize (lg_sl ([.ref h, .int p1, .int p2]) ++ List.replicate (3 - (lg_sl ([.ref h, .int p1, .int p2])).length) Slot.unset).toArray = ls at hl ⊢
  have hl : lv_has ls 3 [(0, .ref h), (1, .int p1), (2, .int p2)] := hl
  unfold wp_X9_placeOn at hw
  refine lv_aload_n hx hb dX9_placeOn_0 rfl (lv_at hl 0 rfl) ?_
  refine va_get (D := G.1) (ci := 9) (v := .ref h_s) (C := RX9) (T := TX9) (N := 14) hx hb hts in_X9 hown hK.1 hP 0 rfl rfl 0 (by decide) (hts _ q817) (fun _ h9 => h9) rfl dX9_placeOn_1 ?_
  refine lv_bipush (v := (22 : Int32)) hx hb dX9_placeOn_4 (by decide) ?_
  refine lv_iconst (v := (3 : Int32)) hx hb dX9_placeOn_6 (by decide) ?_
  refine lv_aload_n hx hb dX9_placeOn_7 rfl (lv_at hl 0 rfl) ?_
  refine va_get (D := G.1) (ci := 9) (v := .ref h_s) (C := RX9) (T := TX9) (N := 14) hx hb hts in_X9 hown hK.1 hP 0 rfl rfl 0 (by decide) (hts _ q817) (fun _ h9 => h9) rfl dX9_placeOn_8 ?_
  refine lv_bipush (v := (10 : Int32)) hx hb dX9_placeOn_11 (by decide) ?_
  refine lv_iload_n hx hb dX9_placeOn_13 rfl (lv_at hl 1 rfl) ?_
  refine lv_iadd hx hb dX9_placeOn_14 ?_
  obtain ⟨i_1, hw⟩ := hw
  refine z_iald hx hb hK.1 hP 1 0 rfl rfl i_1 dX9_placeOn_15 (k := (((10 : Int32) + p1)).toNatClampNeg) rfl ?_
  refine lv_imul hx hb dX9_placeOn_16 ?_
  refine lv_iadd hx hb dX9_placeOn_17 ?_
  refine lv_iload_n hx hb dX9_placeOn_18 rfl (lv_at hl 2 rfl) ?_
  refine lv_iadd hx hb dX9_placeOn_19 ?_
  obtain ⟨i_2, hw⟩ := hw
  refine z_iald hx hb hK.1 hP 1 0 rfl rfl i_2 dX9_placeOn_20 (k := ((((22 : Int32) + ((3 : Int32) * (sv (((10 : Int32) + p1)).toNatClampNeg))) + p2)).toNatClampNeg) rfl ?_
  have hP9 := hP
  have hD9 := hD
  exact W.iret (v := (sv ((((22 : Int32) + ((3 : Int32) * (sv (((10 : Int32) + p1)).toNatClampNeg))) + p2)).toNatClampNeg)) hx hb hr (fun t ht hW => ⟨⟨(sv ((((22 : Int32) + ((3 : Int32) * (sv (((10 : Int32) + p1)).toNatClampNeg))) + p2)).toNatClampNeg), (), rfl, hw, by rw [ht]; exact hP9, hD9⟩, hS.F ht⟩) hS.2.2 dX9_placeOn_21
/-! BattleBenchModel.swaps(I)I -/
def wp_X9_swaps_30 (sv : Nat → Int32) (p1 : Int32) (Q : Int32 → Prop) (K15 : Int32 → Int32 → Prop) : Nat → Int32 → Int32 → Int32 → Prop
  | 0, _, _, _ => False
  | n + 1, x2, x3, x4 =>
    ((((sv 1) ≤ x4) → K15 x2 (x3 + (1 : Int32))) ∧ (¬ ((sv 1) ≤ x4) → wp_X9_placeOn sv x3 p1 (fun r_2 => wp_X9_placeOn sv x4 p1 (fun r_3 => (((r_2 ≤ r_3) → (∀ v_5 : Int32, v_5 = (x2 + (0 : Int32)) → wp_X9_swaps_30 sv p1 Q K15 n v_5 x3 (x4 + (1 : Int32)))) ∧ (¬ (r_2 ≤ r_3) → (∀ v_6 : Int32, v_6 = (x2 + (1 : Int32)) → wp_X9_swaps_30 sv p1 Q K15 n v_6 x3 (x4 + (1 : Int32)))))))))
set_option maxHeartbeats 4000000 in
theorem wk_X9_swaps_30 {p : Program} {l : Launch} {e : Env} {s : State} {m : MethodId} {below : List Frame} {meth : Method} {c : Code} {args : Array Value} {G : GT} {A : Nat → Prop} (h h_s h_images h_tape h_draft h_items h_moved h_sizes h_lanes h_less h_aside h_order : Nat) (kept : Int32) (typed : Int32) (atv : Int32) (sv : Nat → Int32) (p1 : Int32) (Q : Int32 → Prop) (K15 : Int32 → Int32 → Prop) (C : Cx p s m meth c cX9_swaps 5 (some .int) RX9 args G A) (hK15 : ∀  (x2 : Int32) (x3 : Int32) (H : Heap) (locs : List Loc), va_P G.1 gCl [oc h 9 [.ref h_s, .ref h_images, .int kept, .ref h_tape, .int typed, .ref h_draft, .int atv, .ref h_items, .ref h_moved, .ref h_sizes, .ref h_lanes, .ref h_less, .ref h_aside, .ref h_order], ai G h_s 161 sv] H → va_D A [oc h 9 [.ref h_s, .ref h_images, .int kept, .ref h_tape, .int typed, .ref h_draft, .int atv, .ref h_items, .ref h_moved, .ref h_sizes, .ref h_lanes, .ref h_less, .ref h_aside, .ref h_order], ai G h_s 161 sv] → va_S A s.heap H locs → ∀ (ls : Array Slot), lv_has ls 5 [(0, .ref h), (1, .int p1), (2, .int x2), (3, .int x3)] → K15 x2 x3 → W p l e ({ frames := 1, cells := 0, slots := 0, locals := 22 } : Room) s m args below meth c H locs 0 0 (MQ below (va_Qi (fun (r : Int32) (u : Unit) => Q r ) (fun u t => va_P G.1 gCl [oc h 9 [.ref h_s, .ref h_images, .int kept, .ref h_tape, .int typed, .ref h_draft, .int atv, .ref h_items, .ref h_moved, .ref h_sizes, .ref h_lanes, .ref h_less, .ref h_aside, .ref h_order], ai G h_s 161 sv] t.heap ∧ va_D A [oc h 9 [.ref h_s, .ref h_images, .int kept, .ref h_tape, .int typed, .ref h_draft, .int atv, .ref h_items, .ref h_moved, .ref h_sizes, .ref h_lanes, .ref h_less, .ref h_aside, .ref h_order], ai G h_s 161 sv]) A) args s 0 0 A) (F0 m 15 ls [])) :
    ∀ (n : Nat), ∀  (x2 : Int32) (x3 : Int32) (x4 : Int32) (H : Heap) (locs : List Loc), va_P G.1 gCl [oc h 9 [.ref h_s, .ref h_images, .int kept, .ref h_tape, .int typed, .ref h_draft, .int atv, .ref h_items, .ref h_moved, .ref h_sizes, .ref h_lanes, .ref h_less, .ref h_aside, .ref h_order], ai G h_s 161 sv] H → va_D A [oc h 9 [.ref h_s, .ref h_images, .int kept, .ref h_tape, .int typed, .ref h_draft, .int atv, .ref h_items, .ref h_moved, .ref h_sizes, .ref h_lanes, .ref h_less, .ref h_aside, .ref h_order], ai G h_s 161 sv] → va_S A s.heap H locs → ∀ (ls : Array Slot), lv_has ls 5 [(0, .ref h), (1, .int p1), (2, .int x2), (3, .int x3), (4, .int x4)] → wp_X9_swaps_30 sv p1 Q K15 n x2 x3 x4 → W p l e ({ frames := 1, cells := 0, slots := 0, locals := 22 } : Room) s m args below meth c H locs 0 0 (MQ below (va_Qi (fun (r : Int32) (u : Unit) => Q r ) (fun u t => va_P G.1 gCl [oc h 9 [.ref h_s, .ref h_images, .int kept, .ref h_tape, .int typed, .ref h_draft, .int atv, .ref h_items, .ref h_moved, .ref h_sizes, .ref h_lanes, .ref h_less, .ref h_aside, .ref h_order], ai G h_s 161 sv] t.heap ∧ va_D A [oc h 9 [.ref h_s, .ref h_images, .int kept, .ref h_tape, .int typed, .ref h_draft, .int atv, .ref h_items, .ref h_moved, .ref h_sizes, .ref h_lanes, .ref h_less, .ref h_aside, .ref h_order], ai G h_s 161 sv]) A) args s 0 0 A) (F0 m 30 ls []) := by
  have C9 := C
  obtain ⟨hx, hb, hr, hlocks, hml, hown, hts, hK, hA⟩ := C9
  intro n
  induction n with
  | zero => intro x2 x3 x4 H locs hP hD hS ls hl hw; exact False.elim hw
  | succ n ih =>
    intro x2 x3 x4 H locs hP hD hS ls hl hw
    unfold wp_X9_swaps_30 at hw
    refine lv_iload hx hb dX9_swaps_30 (lv_at hl 4 rfl) ?_
    refine lv_aload_n hx hb dX9_swaps_32 rfl (lv_at hl 0 rfl) ?_
    refine va_get (D := G.1) (ci := 9) (v := .ref h_s) (C := RX9) (T := TX9) (N := 14) hx hb hts in_X9 hown hK.1 hP 0 rfl rfl 0 (by decide) (hts _ q817) (fun _ h9 => h9) rfl dX9_swaps_33 ?_
    refine lv_iconst (v := (1 : Int32)) hx hb dX9_swaps_36 (by decide) ?_
    refine z_iald hx hb hK.1 hP 1 0 rfl rfl (vin_l (by decide +kernel)) dX9_swaps_37 (k := 1) rfl ?_
    refine lv_icmp_ge (tgt := 71) hx hb dX9_swaps_38 (by decide) (fun c_1 => ?_) (fun c_1 => ?_)
    · replace hw := hw.1 c_1
      refine lv_iinc (v := (x3 + (1 : Int32))) (lv' := [(3, .int (x3 + (1 : Int32))), (0, .ref h), (1, .int p1), (2, .int x2), (4, .int x4)]) hx hb dX9_swaps_71 hl (k := 3) rfl rfl (by decide) rfl (fun ls hl => ?_)
      refine lv_goto (tgt := 15) hx hb dX9_swaps_74 (by decide) ?_
      exact hK15 x2 (x3 + (1 : Int32)) H locs hP hD hS ls (lv_sub hl [1, 2, 3, 0] rfl) hw
    · replace hw := hw.2 c_1
      refine lv_iload_n hx hb dX9_swaps_41 rfl (lv_at hl 2 rfl) ?_
      refine lv_aload_n hx hb dX9_swaps_42 rfl (lv_at hl 0 rfl) ?_
      refine lv_iload_n hx hb dX9_swaps_43 rfl (lv_at hl 3 rfl) ?_
      refine lv_iload_n hx hb dX9_swaps_44 rfl (lv_at hl 1 rfl) ?_
      have hPc := hP.sub (ws' := [oc h 9 [.ref h_s, .ref h_images, .int kept, .ref h_tape, .int typed, .ref h_draft, .int atv, .ref h_items, .ref h_moved, .ref h_sizes, .ref h_lanes, .ref h_less, .ref h_aside, .ref h_order], ai G h_s 161 sv]) [0, 1] rfl
      have hDc := hD.sub (ws' := [oc h 9 [.ref h_s, .ref h_images, .int kept, .ref h_tape, .int typed, .ref h_draft, .int atv, .ref h_items, .ref h_moved, .ref h_sizes, .ref h_lanes, .ref h_less, .ref h_aside, .ref h_order], ai G h_s 161 sv]) [0, 1] (by decide) rfl
      have hFc := va_free (wc := [oc h 9 [.ref h_s, .ref h_images, .int kept, .ref h_tape, .int typed, .ref h_draft, .int atv, .ref h_items, .ref h_moved, .ref h_sizes, .ref h_lanes, .ref h_less, .ref h_aside, .ref h_order], ai G h_s 161 sv]) hD hS hA [0, 1] rfl
      refine va_calli (va_runV (As := [.int x3, .int p1]) (rest := [.int x2]) ⟨hx, hb, hml, hown, hts⟩ (mt_X9_placeOn l G h h_s h_images h_tape h_draft h_items h_moved h_sizes h_lanes h_less h_aside h_order H.size kept typed atv sv x3 p1 _ hw) (cwV 2 hts (lw_V q1038 q1040 qs47 q65 q1041) rfl rfl rfl (by decide +kernel) ⟨Nat.le_of_ble_eq_true rfl, Nat.le_of_ble_eq_true rfl⟩) ⟨fun a U g mk q => by obtain ⟨q0, q1, qP, qK, qD⟩ := q; exact ⟨q0, q1, qP, qK.call, qD⟩, va_recv hK.1 hP (ci := 9) (q0 := 0) rfl rfl, fun U hU hW => ⟨rfl, by rw [hU], by rw [hU]; exact hPc, hK.warm hW, hDc.weaken (fun _ _ _ _ => trivial)⟩⟩ rfl rfl hl.1 rfl (lv_room (Nat.le_of_ble_eq_true rfl)) dX9_swaps_45 ⟨Nat.le_of_ble_eq_true rfl, Nat.le_of_ble_eq_true rfl⟩) hS (fun q _ h => hFc q h) hFc (fun r_2 _ t H1 locs ht hvm hw hB hz1 hk1 hS => ?_)
      obtain ⟨hP1, hD1⟩ := hB
      rw [ht] at hP1
      obtain ⟨hP, hD⟩ := va_join (wr := []) (w1 := [oc h 9 [.ref h_s, .ref h_images, .int kept, .ref h_tape, .int typed, .ref h_draft, .int atv, .ref h_items, .ref h_moved, .ref h_sizes, .ref h_lanes, .ref h_less, .ref h_aside, .ref h_order], ai G h_s 161 sv]) hP hD [0, 1] [] rfl rfl (by decide) (by decide) hk1 hFc hP1 hD1
      clear hPc hDc hFc hP1 hD1 hz1 hk1 hvm
      generalize H1 = H at hP hS ⊢
      have hP : va_P G.1 gCl [oc h 9 [.ref h_s, .ref h_images, .int kept, .ref h_tape, .int typed, .ref h_draft, .int atv, .ref h_items, .ref h_moved, .ref h_sizes, .ref h_lanes, .ref h_less, .ref h_aside, .ref h_order], ai G h_s 161 sv] H := hP
      have hD : va_D A [oc h 9 [.ref h_s, .ref h_images, .int kept, .ref h_tape, .int typed, .ref h_draft, .int atv, .ref h_items, .ref h_moved, .ref h_sizes, .ref h_lanes, .ref h_less, .ref h_aside, .ref h_order], ai G h_s 161 sv] := hD
      refine lv_aload_n hx hb dX9_swaps_48 rfl (lv_at hl 0 rfl) ?_
      refine lv_iload hx hb dX9_swaps_49 (lv_at hl 4 rfl) ?_
      refine lv_iload_n hx hb dX9_swaps_51 rfl (lv_at hl 1 rfl) ?_
      have hPc := hP.sub (ws' := [oc h 9 [.ref h_s, .ref h_images, .int kept, .ref h_tape, .int typed, .ref h_draft, .int atv, .ref h_items, .ref h_moved, .ref h_sizes, .ref h_lanes, .ref h_less, .ref h_aside, .ref h_order], ai G h_s 161 sv]) [0, 1] rfl
      have hDc := hD.sub (ws' := [oc h 9 [.ref h_s, .ref h_images, .int kept, .ref h_tape, .int typed, .ref h_draft, .int atv, .ref h_items, .ref h_moved, .ref h_sizes, .ref h_lanes, .ref h_less, .ref h_aside, .ref h_order], ai G h_s 161 sv]) [0, 1] (by decide) rfl
      have hFc := va_free (wc := [oc h 9 [.ref h_s, .ref h_images, .int kept, .ref h_tape, .int typed, .ref h_draft, .int atv, .ref h_items, .ref h_moved, .ref h_sizes, .ref h_lanes, .ref h_less, .ref h_aside, .ref h_order], ai G h_s 161 sv]) hD hS hA [0, 1] rfl
      refine va_calli (va_runV (As := [.int x4, .int p1]) (rest := [.int r_2, .int x2]) ⟨hx, hb, hml, hown, hts⟩ (mt_X9_placeOn l G h h_s h_images h_tape h_draft h_items h_moved h_sizes h_lanes h_less h_aside h_order H.size kept typed atv sv x4 p1 _ hw) (cwV 2 hts (lw_V q1038 q1040 qs47 q65 q1041) rfl rfl rfl (by decide +kernel) ⟨Nat.le_of_ble_eq_true rfl, Nat.le_of_ble_eq_true rfl⟩) ⟨fun a U g mk q => by obtain ⟨q0, q1, qP, qK, qD⟩ := q; exact ⟨q0, q1, qP, qK.call, qD⟩, va_recv hK.1 hP (ci := 9) (q0 := 0) rfl rfl, fun U hU hW => ⟨rfl, by rw [hU], by rw [hU]; exact hPc, hK.warm hW, hDc.weaken (fun _ _ _ _ => trivial)⟩⟩ rfl rfl hl.1 rfl (lv_room (Nat.le_of_ble_eq_true rfl)) dX9_swaps_52 ⟨Nat.le_of_ble_eq_true rfl, Nat.le_of_ble_eq_true rfl⟩) hS (fun q _ h => hFc q h) hFc (fun r_3 _ t H1 locs ht hvm hw hB hz1 hk1 hS => ?_)
      obtain ⟨hP1, hD1⟩ := hB
      rw [ht] at hP1
      obtain ⟨hP, hD⟩ := va_join (wr := []) (w1 := [oc h 9 [.ref h_s, .ref h_images, .int kept, .ref h_tape, .int typed, .ref h_draft, .int atv, .ref h_items, .ref h_moved, .ref h_sizes, .ref h_lanes, .ref h_less, .ref h_aside, .ref h_order], ai G h_s 161 sv]) hP hD [0, 1] [] rfl rfl (by decide) (by decide) hk1 hFc hP1 hD1
      clear hPc hDc hFc hP1 hD1 hz1 hk1 hvm
      generalize H1 = H at hP hS ⊢
      have hP : va_P G.1 gCl [oc h 9 [.ref h_s, .ref h_images, .int kept, .ref h_tape, .int typed, .ref h_draft, .int atv, .ref h_items, .ref h_moved, .ref h_sizes, .ref h_lanes, .ref h_less, .ref h_aside, .ref h_order], ai G h_s 161 sv] H := hP
      have hD : va_D A [oc h 9 [.ref h_s, .ref h_images, .int kept, .ref h_tape, .int typed, .ref h_draft, .int atv, .ref h_items, .ref h_moved, .ref h_sizes, .ref h_lanes, .ref h_less, .ref h_aside, .ref h_order], ai G h_s 161 sv] := hD
      refine lv_icmp_le (tgt := 62) hx hb dX9_swaps_55 (by decide) (fun c_4 => ?_) (fun c_4 => ?_)
      · replace hw := hw.1 c_4
        refine lv_iconst (v := (0 : Int32)) hx hb dX9_swaps_62 (by decide) ?_
        refine lv_iadd hx hb dX9_swaps_63 ?_
        refine lv_topi (fun v_5 ev_5 => ?_)
        replace hw := hw v_5 ev_5
        refine lv_istore_n (lv' := [(2, .int v_5), (0, .ref h), (1, .int p1), (3, .int x3), (4, .int x4)]) hx hb dX9_swaps_64 rfl hl (by decide) rfl (fun ls hl => ?_)
        refine lv_iinc (v := (x4 + (1 : Int32))) (lv' := [(4, .int (x4 + (1 : Int32))), (2, .int v_5), (0, .ref h), (1, .int p1), (3, .int x3)]) hx hb dX9_swaps_65 hl (k := 4) rfl rfl (by decide) rfl (fun ls hl => ?_)
        refine lv_goto (tgt := 30) hx hb dX9_swaps_68 (by decide) ?_
        exact ih v_5 x3 (x4 + (1 : Int32)) H locs hP hD hS ls (lv_sub hl [2, 3, 1, 4, 0] rfl) hw
      · replace hw := hw.2 c_4
        refine lv_iconst (v := (1 : Int32)) hx hb dX9_swaps_58 (by decide) ?_
        refine lv_goto (tgt := 63) hx hb dX9_swaps_59 (by decide) ?_
        refine lv_iadd hx hb dX9_swaps_63 ?_
        refine lv_topi (fun v_6 ev_6 => ?_)
        replace hw := hw v_6 ev_6
        refine lv_istore_n (lv' := [(2, .int v_6), (0, .ref h), (1, .int p1), (3, .int x3), (4, .int x4)]) hx hb dX9_swaps_64 rfl hl (by decide) rfl (fun ls hl => ?_)
        refine lv_iinc (v := (x4 + (1 : Int32))) (lv' := [(4, .int (x4 + (1 : Int32))), (2, .int v_6), (0, .ref h), (1, .int p1), (3, .int x3)]) hx hb dX9_swaps_65 hl (k := 4) rfl rfl (by decide) rfl (fun ls hl => ?_)
        refine lv_goto (tgt := 30) hx hb dX9_swaps_68 (by decide) ?_
        exact ih v_6 x3 (x4 + (1 : Int32)) H locs hP hD hS ls (lv_sub hl [2, 3, 1, 4, 0] rfl) hw
def wp_X9_swaps_15 (sv : Nat → Int32) (p1 : Int32) (Q : Int32 → Prop)  : Nat → Int32 → Int32 → Prop
  | 0, _, _ => False
  | n + 1, x2, x3 =>
    ((((sv 1) ≤ x3) → Q x2) ∧ (¬ ((sv 1) ≤ x3) → (∀ v_2 : Int32, v_2 = (x3 + (1 : Int32)) → (∃ j_ : Nat, wp_X9_swaps_30 sv p1 Q (fun a0_ a1_ => wp_X9_swaps_15 sv p1 Q  n a0_ a1_) j_ x2 x3 v_2))))
set_option maxHeartbeats 4000000 in
theorem wk_X9_swaps_15 {p : Program} {l : Launch} {e : Env} {s : State} {m : MethodId} {below : List Frame} {meth : Method} {c : Code} {args : Array Value} {G : GT} {A : Nat → Prop} (h h_s h_images h_tape h_draft h_items h_moved h_sizes h_lanes h_less h_aside h_order : Nat) (kept : Int32) (typed : Int32) (atv : Int32) (sv : Nat → Int32) (p1 : Int32) (Q : Int32 → Prop)  (C : Cx p s m meth c cX9_swaps 5 (some .int) RX9 args G A)  :
    ∀ (n : Nat), ∀  (x2 : Int32) (x3 : Int32) (H : Heap) (locs : List Loc), va_P G.1 gCl [oc h 9 [.ref h_s, .ref h_images, .int kept, .ref h_tape, .int typed, .ref h_draft, .int atv, .ref h_items, .ref h_moved, .ref h_sizes, .ref h_lanes, .ref h_less, .ref h_aside, .ref h_order], ai G h_s 161 sv] H → va_D A [oc h 9 [.ref h_s, .ref h_images, .int kept, .ref h_tape, .int typed, .ref h_draft, .int atv, .ref h_items, .ref h_moved, .ref h_sizes, .ref h_lanes, .ref h_less, .ref h_aside, .ref h_order], ai G h_s 161 sv] → va_S A s.heap H locs → ∀ (ls : Array Slot), lv_has ls 5 [(0, .ref h), (1, .int p1), (2, .int x2), (3, .int x3)] → wp_X9_swaps_15 sv p1 Q  n x2 x3 → W p l e ({ frames := 1, cells := 0, slots := 0, locals := 22 } : Room) s m args below meth c H locs 0 0 (MQ below (va_Qi (fun (r : Int32) (u : Unit) => Q r ) (fun u t => va_P G.1 gCl [oc h 9 [.ref h_s, .ref h_images, .int kept, .ref h_tape, .int typed, .ref h_draft, .int atv, .ref h_items, .ref h_moved, .ref h_sizes, .ref h_lanes, .ref h_less, .ref h_aside, .ref h_order], ai G h_s 161 sv] t.heap ∧ va_D A [oc h 9 [.ref h_s, .ref h_images, .int kept, .ref h_tape, .int typed, .ref h_draft, .int atv, .ref h_items, .ref h_moved, .ref h_sizes, .ref h_lanes, .ref h_less, .ref h_aside, .ref h_order], ai G h_s 161 sv]) A) args s 0 0 A) (F0 m 15 ls []) := by
  have C9 := C
  obtain ⟨hx, hb, hr, hlocks, hml, hown, hts, hK, hA⟩ := C9
  intro n
  induction n with
  | zero => intro x2 x3 H locs hP hD hS ls hl hw; exact False.elim hw
  | succ n ih =>
    intro x2 x3 H locs hP hD hS ls hl hw
    unfold wp_X9_swaps_15 at hw
    refine lv_iload_n hx hb dX9_swaps_15 rfl (lv_at hl 3 rfl) ?_
    refine lv_aload_n hx hb dX9_swaps_16 rfl (lv_at hl 0 rfl) ?_
    refine va_get (D := G.1) (ci := 9) (v := .ref h_s) (C := RX9) (T := TX9) (N := 14) hx hb hts in_X9 hown hK.1 hP 0 rfl rfl 0 (by decide) (hts _ q817) (fun _ h9 => h9) rfl dX9_swaps_17 ?_
    refine lv_iconst (v := (1 : Int32)) hx hb dX9_swaps_20 (by decide) ?_
    refine z_iald hx hb hK.1 hP 1 0 rfl rfl (vin_l (by decide +kernel)) dX9_swaps_21 (k := 1) rfl ?_
    refine lv_icmp_ge (tgt := 77) hx hb dX9_swaps_22 (by decide) (fun c_1 => ?_) (fun c_1 => ?_)
    · replace hw := hw.1 c_1
      refine lv_iload_n hx hb dX9_swaps_77 rfl (lv_at hl 2 rfl) ?_
      have hP9 := hP
      have hD9 := hD
      exact W.iret (v := x2) hx hb hr (fun t ht hW => ⟨⟨x2, (), rfl, hw, by rw [ht]; exact hP9, hD9⟩, hS.F ht⟩) hS.2.2 dX9_swaps_78
    · replace hw := hw.2 c_1
      refine lv_iload_n hx hb dX9_swaps_25 rfl (lv_at hl 3 rfl) ?_
      refine lv_iconst (v := (1 : Int32)) hx hb dX9_swaps_26 (by decide) ?_
      refine lv_iadd hx hb dX9_swaps_27 ?_
      refine lv_topi (fun v_2 ev_2 => ?_)
      replace hw := hw v_2 ev_2
      refine lv_istore (lv' := [(4, .int v_2), (0, .ref h), (1, .int p1), (2, .int x2), (3, .int x3)]) hx hb dX9_swaps_28 hl (by decide) rfl (fun ls hl => ?_)
      obtain ⟨j_, hw⟩ := hw
      exact wk_X9_swaps_30 h h_s h_images h_tape h_draft h_items h_moved h_sizes h_lanes h_less h_aside h_order kept typed atv sv p1  Q (fun a0_ a1_ => wp_X9_swaps_15 sv p1 Q  n a0_ a1_) C ih j_ x2 x3 v_2 H locs hP hD hS ls (lv_sub hl [1, 2, 3, 4, 0] rfl) hw
def wp_X9_swaps (sv : Nat → Int32) (p1 : Int32) (Q : Int32 → Prop) : Prop :=
  wp_X9_in  p1 (0 : Int32) (2 : Int32) (fun r_1 => ((¬ (r_1 = 0) → (∃ j_ : Nat, wp_X9_swaps_15 sv p1 Q  j_ (0 : Int32) (0 : Int32))) ∧ ((r_1 = 0) → Q (-1 : Int32))))
set_option maxHeartbeats 4000000 in
theorem mt_X9_swaps (l : Launch) (G : GT) (h h_s h_images h_tape h_draft h_items h_moved h_sizes h_lanes h_less h_aside h_order : Nat) (sz : Nat) (kept : Int32) (typed : Int32) (atv : Int32) (sv : Nat → Int32) (p1 : Int32) (Q : Int32 → Prop) (hw : wp_X9_swaps sv p1 Q) : Met l yX9_swaps (ws_ yX9_swaps cX9_swaps 5 (some .int)) ({ frames := 1, cells := 0, slots := 0, locals := 22 } : Room) (va_Pc [.ref h, .int p1] (fun U => U.heap.size = sz ∧ va_P G.1 gCl [oc h 9 [.ref h_s, .ref h_images, .int kept, .ref h_tape, .int typed, .ref h_draft, .int atv, .ref h_items, .ref h_moved, .ref h_sizes, .ref h_lanes, .ref h_less, .ref h_aside, .ref h_order], ai G h_s 161 sv] U.heap ∧ gK G U ∧ va_D (fun _ => True) [oc h 9 [.ref h_s, .ref h_images, .int kept, .ref h_tape, .int typed, .ref h_draft, .int atv, .ref h_items, .ref h_moved, .ref h_sizes, .ref h_lanes, .ref h_less, .ref h_aside, .ref h_order], ai G h_s 161 sv])) ((fun A => (va_Qi (fun (r : Int32) (u : Unit) => Q r ) (fun u t => va_P G.1 gCl [oc h 9 [.ref h_s, .ref h_images, .int kept, .ref h_tape, .int typed, .ref h_draft, .int atv, .ref h_items, .ref h_moved, .ref h_sizes, .ref h_lanes, .ref h_less, .ref h_aside, .ref h_order], ai G h_s 161 sv] t.heap ∧ va_D A [oc h 9 [.ref h_s, .ref h_images, .int kept, .ref h_tape, .int typed, .ref h_draft, .int atv, .ref h_items, .ref h_moved, .ref h_sizes, .ref h_lanes, .ref h_less, .ref h_aside, .ref h_order], ai G h_s 161 sv]) A)) (va_A [oc h 9 [.ref h_s, .ref h_images, .int kept, .ref h_tape, .int typed, .ref h_draft, .int atv, .ref h_items, .ref h_moved, .ref h_sizes, .ref h_lanes, .ref h_less, .ref h_aside, .ref h_order], ai G h_s 161 sv] sz)) 0 0 (va_A [oc h 9 [.ref h_s, .ref h_images, .int kept, .ref h_tape, .int typed, .ref h_draft, .int atv, .ref h_items, .ref h_moved, .ref h_sizes, .ref h_lanes, .ref h_less, .ref h_aside, .ref h_order], ai G h_s 161 sv] sz) := by
  refine Met.ofW (cc := cX9_swaps) (maxL := 5) (ret := (some .int)) (by decide) rfl ?_
  intro p e s m args below meth c s₁ B hml hv
  obtain ⟨rfl, hsz, hP, hK, hD0⟩ := hv
  have hx := B.exec
  have hb := B.bytes
  have hr := B.returns
  have hts := atoms_spec (ws := (ws_ yX9_swaps cX9_swaps 5 (some .int))) B.pre
  have hts : ∀ w ∈ lw_all, w.before _ s = true := fun w h => hts w (List.mem_cons_of_mem _ h)
  have hown : s.vm.findClass RX9 = some m.cls := findClass_of_methodNamed B.named
  have hlocks := B.notSynchronized
  subst hsz
  have hD := hD0.self (sz := s.heap.size)
  generalize hAe : va_A [oc h 9 [.ref h_s, .ref h_images, .int kept, .ref h_tape, .int typed, .ref h_draft, .int atv, .ref h_items, .ref h_moved, .ref h_sizes, .ref h_lanes, .ref h_less, .ref h_aside, .ref h_order], ai G h_s 161 sv] s.heap.size = A at hD ⊢
  have hA : ∀ q : Nat, s.heap.size ≤ q → A q := fun q h => by rw [← hAe]; exact Or.inr h
  have hS : va_S A s.heap s.heap [] := va_S.rf
  have C : Cx p s m meth c cX9_swaps 5 (some .int) RX9 ([.ref h, .int p1] : List Value).toArray G A := ⟨hx, hb, hr, hlocks, hml, hown, hts, hK, hA⟩
  have hl := lv_entry ([.ref h, .int p1]) (n := 5) (Nat.le_of_ble_eq_true rfl)
  rw [lg_entry_eq]
  generalize (lg_sl ([.ref h, .int p1]) ++ List.replicate (5 - (lg_sl ([.ref h, .int p1])).length) Slot.unset).toArray = ls at hl ⊢
  have hl : lv_has ls 5 [(0, .ref h), (1, .int p1)] := hl
  unfold wp_X9_swaps at hw
  refine lv_iload_n hx hb dX9_swaps_0 rfl (lv_at hl 1 rfl) ?_
  refine lv_iconst (v := (0 : Int32)) hx hb dX9_swaps_1 (by decide) ?_
  refine lv_iconst (v := (2 : Int32)) hx hb dX9_swaps_2 (by decide) ?_
  have hPc := hP.sub (ws' := []) [] rfl
  have hDc := hD.sub (ws' := []) [] (by decide) rfl
  have hFc := va_free (wc := []) hD hS hA [] rfl
  refine va_calli (va_runS (As := [.int p1, .int (0 : Int32), .int (2 : Int32)]) (rest := []) ⟨hx, hb, hml, hown, hts⟩ (mt_X9_in l G  s.heap.size  p1 (0 : Int32) (2 : Int32) _ hw) (va_cwS 3 hts (lw_S q864 q865 q65 q866) rfl rfl rfl (by decide +kernel) ⟨Nat.le_of_ble_eq_true rfl, Nat.le_of_ble_eq_true rfl⟩) ⟨fun a U g mk q => by obtain ⟨q0, q1, qP, qK, qD⟩ := q; exact ⟨q0, q1, qP, qK.call, qD⟩, fun U hU hW => ⟨rfl, by rw [hU], by rw [hU]; exact hPc, hK.warm hW, hDc.weaken (fun _ _ _ _ => trivial)⟩⟩ rfl rfl hl.1 rfl (lv_room (Nat.le_of_ble_eq_true rfl)) dX9_swaps_3 ⟨Nat.le_of_ble_eq_true rfl, Nat.le_of_ble_eq_true rfl⟩) hS (fun q _ h => hFc q h) hFc (fun r_1 _ t H1 locs ht hvm hw hB hz1 hk1 hS => ?_)
  obtain ⟨hP1, hD1⟩ := hB
  rw [ht] at hP1
  obtain ⟨hP, hD⟩ := va_join (wr := [oc h 9 [.ref h_s, .ref h_images, .int kept, .ref h_tape, .int typed, .ref h_draft, .int atv, .ref h_items, .ref h_moved, .ref h_sizes, .ref h_lanes, .ref h_less, .ref h_aside, .ref h_order], ai G h_s 161 sv]) (w1 := []) hP hD [] [0, 1] rfl rfl (by decide) (by decide) hk1 hFc hP1 hD1
  clear hPc hDc hFc hP1 hD1 hz1 hk1 hvm
  generalize H1 = H at hP hS ⊢
  have hP : va_P G.1 gCl [oc h 9 [.ref h_s, .ref h_images, .int kept, .ref h_tape, .int typed, .ref h_draft, .int atv, .ref h_items, .ref h_moved, .ref h_sizes, .ref h_lanes, .ref h_less, .ref h_aside, .ref h_order], ai G h_s 161 sv] H := hP
  have hD : va_D A [oc h 9 [.ref h_s, .ref h_images, .int kept, .ref h_tape, .int typed, .ref h_draft, .int atv, .ref h_items, .ref h_moved, .ref h_sizes, .ref h_lanes, .ref h_less, .ref h_aside, .ref h_order], ai G h_s 161 sv] := hD
  refine lv_if_ne (tgt := 11) hx hb dX9_swaps_6 (by decide) (fun c_2 => ?_) (fun c_2 => ?_)
  · replace hw := hw.1 c_2
    refine lv_iconst (v := (0 : Int32)) hx hb dX9_swaps_11 (by decide) ?_
    refine lv_istore_n (lv' := [(2, .int (0 : Int32)), (0, .ref h), (1, .int p1)]) hx hb dX9_swaps_12 rfl hl (by decide) rfl (fun ls hl => ?_)
    refine lv_iconst (v := (0 : Int32)) hx hb dX9_swaps_13 (by decide) ?_
    refine lv_istore_n (lv' := [(3, .int (0 : Int32)), (2, .int (0 : Int32)), (0, .ref h), (1, .int p1)]) hx hb dX9_swaps_14 rfl hl (by decide) rfl (fun ls hl => ?_)
    obtain ⟨j_, hw⟩ := hw
    exact wk_X9_swaps_15 h h_s h_images h_tape h_draft h_items h_moved h_sizes h_lanes h_less h_aside h_order kept typed atv sv p1  Q  C  j_ (0 : Int32) (0 : Int32) H locs hP hD hS ls (lv_sub hl [2, 3, 1, 0] rfl) hw
  · replace hw := hw.2 c_2
    refine lv_iconst (v := (-1 : Int32)) hx hb dX9_swaps_9 (by decide) ?_
    have hP9 := hP
    have hD9 := hD
    exact W.iret (v := (-1 : Int32)) hx hb hr (fun t ht hW => ⟨⟨(-1 : Int32), (), rfl, hw, by rw [ht]; exact hP9, hD9⟩, hS.F ht⟩) hS.2.2 dX9_swaps_10
