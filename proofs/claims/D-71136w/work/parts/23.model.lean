set_option maxRecDepth 100000
/-! BattleBenchModel.failed(IIIIII)I -/
def wp_X9_failed_158 (items : Nat → Int64) (sizes : Nat → Int32) (lanes : Nat → Int32) (p1 : Int32) (p2 : Int32) (p3 : Int32) (p4 : Int32) (p5 : Int32) (p6 : Int32) (Q : Int32 → ((Nat → Int32) × (Nat → Int32) × (Nat → Int32)) → Prop)  : Nat → (Nat → Int32) → (Nat → Int32) → (Nat → Int32) → Int32 → Int32 → Int32 → Int32 → Int32 → Prop
  | 0, _, _, _, _, _, _, _, _ => False
  | n + 1, sv, less, aside, x8, x9, x10, x11, x12 =>
    (((x12 ≤ 0) → ((¬ (p6 = 0) → ((¬ (p6 = (1 : Int32)) → Q x11 (sv, less, aside)) ∧ ((p6 = (1 : Int32)) → Q x10 (sv, less, aside)))) ∧ ((p6 = 0) → Q x9 (sv, less, aside)))) ∧ (¬ (x12 ≤ 0) → (vp_in ((4 : Int32) + p1) 161 ∧ ∀ f_5 : Nat → Int32, f_5 = upd sv (((4 : Int32) + p1)).toNatClampNeg x12 → wp_X9_isSo f_5 items less aside p1 x8 p5 (fun r_6 u_7 => (((r_6 = 0) → (∀ v_9 : Int32, v_9 = (x10 + (0 : Int32)) → (((r_6 = 0) → wp_X9_failed_158 items sizes lanes p1 p2 p3 p4 p5 p6 Q  n u_7.1 u_7.2 aside x8 x9 v_9 x11 (x12 + (-1 : Int32))) ∧ (¬ (r_6 = 0) → wp_X9_failed_158 items sizes lanes p1 p2 p3 p4 p5 p6 Q  n u_7.1 u_7.2 aside x8 x9 v_9 x12 (x12 + (-1 : Int32)))))) ∧ (¬ (r_6 = 0) → (∀ v_11 : Int32, v_11 = (x10 + (1 : Int32)) → (((r_6 = 0) → wp_X9_failed_158 items sizes lanes p1 p2 p3 p4 p5 p6 Q  n u_7.1 u_7.2 aside x8 x9 v_11 x11 (x12 + (-1 : Int32))) ∧ (¬ (r_6 = 0) → wp_X9_failed_158 items sizes lanes p1 p2 p3 p4 p5 p6 Q  n u_7.1 u_7.2 aside x8 x9 v_11 x12 (x12 + (-1 : Int32)))))))))))
set_option maxHeartbeats 4000000 in
theorem wk_X9_failed_158 {p : Program} {l : Launch} {e : Env} {s : State} {m : MethodId} {below : List Frame} {meth : Method} {c : Code} {args : Array Value} {G : GT} {A : Nat → Prop} (h h_s h_images h_tape h_draft h_items h_moved h_sizes h_lanes h_less h_aside h_order : Nat) (kept : Int32) (typed : Int32) (atv : Int32) (items : Nat → Int64) (sizes : Nat → Int32) (lanes : Nat → Int32) (p1 : Int32) (p2 : Int32) (p3 : Int32) (p4 : Int32) (p5 : Int32) (p6 : Int32) (Q : Int32 → ((Nat → Int32) × (Nat → Int32) × (Nat → Int32)) → Prop)  (C : Cx p s m meth c cX9_failed 14 (some .int) RX9 args G A)  :
    ∀ (n : Nat), ∀  (sv : Nat → Int32) (less : Nat → Int32) (aside : Nat → Int32) (x8 : Int32) (x9 : Int32) (x10 : Int32) (x11 : Int32) (x12 : Int32) (H : Heap) (locs : List Loc), va_P G.1 gCl [oc h 9 [.ref h_s, .ref h_images, .int kept, .ref h_tape, .int typed, .ref h_draft, .int atv, .ref h_items, .ref h_moved, .ref h_sizes, .ref h_lanes, .ref h_less, .ref h_aside, .ref h_order], ai G h_s 161 sv, al G h_items 96 items, ai G h_sizes 4 sizes, ai G h_lanes 4 lanes, ai G h_less 6 less, ai G h_aside 40 aside] H → va_D A [oc h 9 [.ref h_s, .ref h_images, .int kept, .ref h_tape, .int typed, .ref h_draft, .int atv, .ref h_items, .ref h_moved, .ref h_sizes, .ref h_lanes, .ref h_less, .ref h_aside, .ref h_order], ai G h_s 161 sv, al G h_items 96 items, ai G h_sizes 4 sizes, ai G h_lanes 4 lanes, ai G h_less 6 less, ai G h_aside 40 aside] → va_S A s.heap H locs → ∀ (ls : Array Slot), lv_has ls 14 [(0, .ref h), (1, .int p1), (5, .int p5), (6, .int p6), (8, .int x8), (9, .int x9), (10, .int x10), (11, .int x11), (12, .int x12)] → wp_X9_failed_158 items sizes lanes p1 p2 p3 p4 p5 p6 Q  n sv less aside x8 x9 x10 x11 x12 → W p l e ({ frames := 6, cells := 0, slots := 0, locals := 138 } : Room) s m args below meth c H locs 0 0 (MQ below (va_Qi (fun (r : Int32) (u : (Nat → Int32) × (Nat → Int32) × (Nat → Int32)) => Q r u) (fun u t => va_P G.1 gCl [oc h 9 [.ref h_s, .ref h_images, .int kept, .ref h_tape, .int typed, .ref h_draft, .int atv, .ref h_items, .ref h_moved, .ref h_sizes, .ref h_lanes, .ref h_less, .ref h_aside, .ref h_order], ai G h_s 161 u.1, al G h_items 96 items, ai G h_sizes 4 sizes, ai G h_lanes 4 lanes, ai G h_less 6 u.2.1, ai G h_aside 40 u.2.2] t.heap ∧ va_D A [oc h 9 [.ref h_s, .ref h_images, .int kept, .ref h_tape, .int typed, .ref h_draft, .int atv, .ref h_items, .ref h_moved, .ref h_sizes, .ref h_lanes, .ref h_less, .ref h_aside, .ref h_order], ai G h_s 161 u.1, al G h_items 96 items, ai G h_sizes 4 sizes, ai G h_lanes 4 lanes, ai G h_less 6 u.2.1, ai G h_aside 40 u.2.2]) A) args s 0 0 A) (F0 m 158 ls []) := by
  have C9 := C
  obtain ⟨hx, hb, hr, hlocks, hml, hown, hts, hK, hA⟩ := C9
  intro n
  induction n with
  | zero => intro sv less aside x8 x9 x10 x11 x12 H locs hP hD hS ls hl hw; exact False.elim hw
  | succ n ih =>
    intro sv less aside x8 x9 x10 x11 x12 H locs hP hD hS ls hl hw
    unfold wp_X9_failed_158 at hw
    refine lv_iload hx hb dX9_failed_158 (lv_at hl 8 rfl) ?_
    refine lv_if_le (tgt := 219) hx hb dX9_failed_160 (by decide) (fun c_1 => ?_) (fun c_1 => ?_)
    · replace hw := hw.1 c_1
      refine lv_iload hx hb dX9_failed_219 (lv_at hl 3 rfl) ?_
      refine lv_if_ne (tgt := 229) hx hb dX9_failed_221 (by decide) (fun c_2 => ?_) (fun c_2 => ?_)
      · replace hw := hw.1 c_2
        refine lv_iload hx hb dX9_failed_229 (lv_at hl 3 rfl) ?_
        refine lv_iconst (v := (1 : Int32)) hx hb dX9_failed_231 (by decide) ?_
        refine lv_icmp_ne (tgt := 240) hx hb dX9_failed_232 (by decide) (fun c_3 => ?_) (fun c_3 => ?_)
        · replace hw := hw.1 c_3
          refine lv_iload hx hb dX9_failed_240 (lv_at hl 7 rfl) ?_
          have hP9 := hP
          have hD9 := hD
          exact W.iret (v := x11) hx hb hr (fun t ht hW => ⟨⟨x11, (sv, less, aside), rfl, hw, by rw [ht]; exact hP9, hD9⟩, hS.F ht⟩) hS.2.2 dX9_failed_242
        · replace hw := hw.2 c_3
          refine lv_iload hx hb dX9_failed_235 (lv_at hl 6 rfl) ?_
          refine lv_goto (tgt := 242) hx hb dX9_failed_237 (by decide) ?_
          have hP9 := hP
          have hD9 := hD
          exact W.iret (v := x10) hx hb hr (fun t ht hW => ⟨⟨x10, (sv, less, aside), rfl, hw, by rw [ht]; exact hP9, hD9⟩, hS.F ht⟩) hS.2.2 dX9_failed_242
      · replace hw := hw.2 c_2
        refine lv_iload hx hb dX9_failed_224 (lv_at hl 5 rfl) ?_
        refine lv_goto (tgt := 242) hx hb dX9_failed_226 (by decide) ?_
        have hP9 := hP
        have hD9 := hD
        exact W.iret (v := x9) hx hb hr (fun t ht hW => ⟨⟨x9, (sv, less, aside), rfl, hw, by rw [ht]; exact hP9, hD9⟩, hS.F ht⟩) hS.2.2 dX9_failed_242
    · replace hw := hw.2 c_1
      refine lv_aload_n hx hb dX9_failed_163 rfl (lv_at hl 0 rfl) ?_
      refine va_get (D := G.1) (ci := 9) (v := .ref h_s) (C := RX9) (T := TX9) (N := 14) hx hb hts in_X9 hown hK.1 hP 0 rfl rfl 0 (by decide) (hts _ q817) (fun _ h9 => h9) rfl dX9_failed_164 ?_
      refine lv_iconst (v := (4 : Int32)) hx hb dX9_failed_167 (by decide) ?_
      refine lv_iload_n hx hb dX9_failed_168 rfl (lv_at hl 1 rfl) ?_
      refine lv_iadd hx hb dX9_failed_169 ?_
      refine lv_iload hx hb dX9_failed_170 (lv_at hl 8 rfl) ?_
      obtain ⟨i_4, hw⟩ := hw
      refine z_iast hx hb hK.1 hP hD hS 1 0 rfl rfl i_4 dX9_failed_172 (k := (((4 : Int32) + p1)).toNatClampNeg) rfl (fun f_5 ef_5 H locs hP hD hS => ?_)
      replace hw := hw f_5 ef_5
      have hP : va_P G.1 gCl [oc h 9 [.ref h_s, .ref h_images, .int kept, .ref h_tape, .int typed, .ref h_draft, .int atv, .ref h_items, .ref h_moved, .ref h_sizes, .ref h_lanes, .ref h_less, .ref h_aside, .ref h_order], ai G h_s 161 f_5, al G h_items 96 items, ai G h_sizes 4 sizes, ai G h_lanes 4 lanes, ai G h_less 6 less, ai G h_aside 40 aside] H := hP
      have hD : va_D A [oc h 9 [.ref h_s, .ref h_images, .int kept, .ref h_tape, .int typed, .ref h_draft, .int atv, .ref h_items, .ref h_moved, .ref h_sizes, .ref h_lanes, .ref h_less, .ref h_aside, .ref h_order], ai G h_s 161 f_5, al G h_items 96 items, ai G h_sizes 4 sizes, ai G h_lanes 4 lanes, ai G h_less 6 less, ai G h_aside 40 aside] := hD
      refine lv_aload_n hx hb dX9_failed_173 rfl (lv_at hl 0 rfl) ?_
      refine lv_iload_n hx hb dX9_failed_174 rfl (lv_at hl 1 rfl) ?_
      refine lv_iload hx hb dX9_failed_175 (lv_at hl 4 rfl) ?_
      refine lv_iload hx hb dX9_failed_177 (lv_at hl 2 rfl) ?_
      have hPc := hP.sub (ws' := [oc h 9 [.ref h_s, .ref h_images, .int kept, .ref h_tape, .int typed, .ref h_draft, .int atv, .ref h_items, .ref h_moved, .ref h_sizes, .ref h_lanes, .ref h_less, .ref h_aside, .ref h_order], ai G h_s 161 f_5, al G h_items 96 items, ai G h_less 6 less, ai G h_aside 40 aside]) [0, 1, 2, 5, 6] rfl
      have hDc := hD.sub (ws' := [oc h 9 [.ref h_s, .ref h_images, .int kept, .ref h_tape, .int typed, .ref h_draft, .int atv, .ref h_items, .ref h_moved, .ref h_sizes, .ref h_lanes, .ref h_less, .ref h_aside, .ref h_order], ai G h_s 161 f_5, al G h_items 96 items, ai G h_less 6 less, ai G h_aside 40 aside]) [0, 1, 2, 5, 6] (by decide) rfl
      have hFc := va_free (wc := [oc h 9 [.ref h_s, .ref h_images, .int kept, .ref h_tape, .int typed, .ref h_draft, .int atv, .ref h_items, .ref h_moved, .ref h_sizes, .ref h_lanes, .ref h_less, .ref h_aside, .ref h_order], ai G h_s 161 f_5, al G h_items 96 items, ai G h_less 6 less, ai G h_aside 40 aside]) hD hS hA [0, 1, 2, 5, 6] rfl
      refine va_calli (va_runV (As := [.int p1, .int x8, .int p5]) (rest := []) ⟨hx, hb, hml, hown, hts⟩ (mt_X9_isSo l G h h_s h_images h_tape h_draft h_items h_moved h_sizes h_lanes h_less h_aside h_order H.size kept typed atv f_5 items less aside p1 x8 p5 _ hw) (cwV 3 hts (lw_V q1096 q1098 qs52 q65 q1099) rfl rfl rfl (by decide +kernel) ⟨Nat.le_of_ble_eq_true rfl, Nat.le_of_ble_eq_true rfl⟩) ⟨fun a U g mk q => by obtain ⟨q0, q1, qP, qK, qD⟩ := q; exact ⟨q0, q1, qP, qK.call, qD⟩, va_recv hK.1 hP (ci := 9) (q0 := 0) rfl rfl, fun U hU hW => ⟨rfl, by rw [hU], by rw [hU]; exact hPc, hK.warm hW, hDc.weaken (fun _ _ _ _ => trivial)⟩⟩ rfl rfl hl.1 rfl (lv_room (Nat.le_of_ble_eq_true rfl)) dX9_failed_179 ⟨Nat.le_of_ble_eq_true rfl, Nat.le_of_ble_eq_true rfl⟩) hS (fun q _ h => hFc q h) hFc (fun r_6 u_7 t H1 locs ht hvm hw hB hz1 hk1 hS => ?_)
      obtain ⟨hP1, hD1⟩ := hB
      rw [ht] at hP1
      obtain ⟨hP, hD⟩ := va_join (wr := [ai G h_sizes 4 sizes, ai G h_lanes 4 lanes]) (w1 := [oc h 9 [.ref h_s, .ref h_images, .int kept, .ref h_tape, .int typed, .ref h_draft, .int atv, .ref h_items, .ref h_moved, .ref h_sizes, .ref h_lanes, .ref h_less, .ref h_aside, .ref h_order], ai G h_s 161 u_7.1, al G h_items 96 items, ai G h_less 6 u_7.2, ai G h_aside 40 aside]) hP hD [0, 1, 2, 5, 6] [3, 4] rfl rfl (by decide) (by decide) hk1 hFc hP1 hD1
      clear hPc hDc hFc hP1 hD1 hz1 hk1 hvm
      generalize H1 = H at hP hS ⊢
      have hP : va_P G.1 gCl [ai G h_sizes 4 sizes, ai G h_lanes 4 lanes, oc h 9 [.ref h_s, .ref h_images, .int kept, .ref h_tape, .int typed, .ref h_draft, .int atv, .ref h_items, .ref h_moved, .ref h_sizes, .ref h_lanes, .ref h_less, .ref h_aside, .ref h_order], ai G h_s 161 u_7.1, al G h_items 96 items, ai G h_less 6 u_7.2, ai G h_aside 40 aside] H := hP
      have hD : va_D A [ai G h_sizes 4 sizes, ai G h_lanes 4 lanes, oc h 9 [.ref h_s, .ref h_images, .int kept, .ref h_tape, .int typed, .ref h_draft, .int atv, .ref h_items, .ref h_moved, .ref h_sizes, .ref h_lanes, .ref h_less, .ref h_aside, .ref h_order], ai G h_s 161 u_7.1, al G h_items 96 items, ai G h_less 6 u_7.2, ai G h_aside 40 aside] := hD
      refine lv_istore (lv' := [(13, .int r_6), (0, .ref h), (1, .int p1), (5, .int p5), (6, .int p6), (8, .int x8), (9, .int x9), (10, .int x10), (11, .int x11), (12, .int x12)]) hx hb dX9_failed_182 hl (by decide) rfl (fun ls hl => ?_)
      refine lv_iload hx hb dX9_failed_184 (lv_at hl 7 rfl) ?_
      refine lv_iload hx hb dX9_failed_186 (lv_at hl 0 rfl) ?_
      refine lv_if_eq (tgt := 195) hx hb dX9_failed_188 (by decide) (fun c_8 => ?_) (fun c_8 => ?_)
      · replace hw := hw.1 c_8
        refine lv_iconst (v := (0 : Int32)) hx hb dX9_failed_195 (by decide) ?_
        refine lv_iadd hx hb dX9_failed_196 ?_
        refine lv_topi (fun v_9 ev_9 => ?_)
        replace hw := hw v_9 ev_9
        refine lv_istore (lv' := [(10, .int v_9), (13, .int r_6), (0, .ref h), (1, .int p1), (5, .int p5), (6, .int p6), (8, .int x8), (9, .int x9), (11, .int x11), (12, .int x12)]) hx hb dX9_failed_197 hl (by decide) rfl (fun ls hl => ?_)
        refine lv_iload hx hb dX9_failed_199 (lv_at hl 1 rfl) ?_
        refine lv_if_eq (tgt := 209) hx hb dX9_failed_201 (by decide) (fun c_10 => ?_) (fun c_10 => ?_)
        · replace hw := hw.1 c_10
          refine lv_iload hx hb dX9_failed_209 (lv_at hl 8 rfl) ?_
          refine lv_istore (lv' := [(11, .int x11), (10, .int v_9), (13, .int r_6), (0, .ref h), (1, .int p1), (5, .int p5), (6, .int p6), (8, .int x8), (9, .int x9), (12, .int x12)]) hx hb dX9_failed_211 hl (by decide) rfl (fun ls hl => ?_)
          refine lv_iinc (v := (x12 + (-1 : Int32))) (lv' := [(12, .int (x12 + (-1 : Int32))), (11, .int x11), (10, .int v_9), (13, .int r_6), (0, .ref h), (1, .int p1), (5, .int p5), (6, .int p6), (8, .int x8), (9, .int x9)]) hx hb dX9_failed_213 hl (k := 9) rfl rfl (by decide) rfl (fun ls hl => ?_)
          refine lv_goto (tgt := 158) hx hb dX9_failed_216 (by decide) ?_
          exact ih u_7.1 u_7.2 aside x8 x9 v_9 x11 (x12 + (-1 : Int32)) H locs (hP.sub [2, 3, 4, 0, 1, 5, 6] rfl) (hD.sub [2, 3, 4, 0, 1, 5, 6] (by decide) rfl) hS ls (lv_sub hl [4, 5, 6, 7, 8, 9, 2, 1, 0] rfl) hw
        · replace hw := hw.2 c_10
          refine lv_iload hx hb dX9_failed_204 (lv_at hl 9 rfl) ?_
          refine lv_goto (tgt := 211) hx hb dX9_failed_206 (by decide) ?_
          refine lv_istore (lv' := [(11, .int x12), (10, .int v_9), (13, .int r_6), (0, .ref h), (1, .int p1), (5, .int p5), (6, .int p6), (8, .int x8), (9, .int x9), (12, .int x12)]) hx hb dX9_failed_211 hl (by decide) rfl (fun ls hl => ?_)
          refine lv_iinc (v := (x12 + (-1 : Int32))) (lv' := [(12, .int (x12 + (-1 : Int32))), (11, .int x12), (10, .int v_9), (13, .int r_6), (0, .ref h), (1, .int p1), (5, .int p5), (6, .int p6), (8, .int x8), (9, .int x9)]) hx hb dX9_failed_213 hl (k := 9) rfl rfl (by decide) rfl (fun ls hl => ?_)
          refine lv_goto (tgt := 158) hx hb dX9_failed_216 (by decide) ?_
          exact ih u_7.1 u_7.2 aside x8 x9 v_9 x12 (x12 + (-1 : Int32)) H locs (hP.sub [2, 3, 4, 0, 1, 5, 6] rfl) (hD.sub [2, 3, 4, 0, 1, 5, 6] (by decide) rfl) hS ls (lv_sub hl [4, 5, 6, 7, 8, 9, 2, 1, 0] rfl) hw
      · replace hw := hw.2 c_8
        refine lv_iconst (v := (1 : Int32)) hx hb dX9_failed_191 (by decide) ?_
        refine lv_goto (tgt := 196) hx hb dX9_failed_192 (by decide) ?_
        refine lv_iadd hx hb dX9_failed_196 ?_
        refine lv_topi (fun v_11 ev_11 => ?_)
        replace hw := hw v_11 ev_11
        refine lv_istore (lv' := [(10, .int v_11), (13, .int r_6), (0, .ref h), (1, .int p1), (5, .int p5), (6, .int p6), (8, .int x8), (9, .int x9), (11, .int x11), (12, .int x12)]) hx hb dX9_failed_197 hl (by decide) rfl (fun ls hl => ?_)
        refine lv_iload hx hb dX9_failed_199 (lv_at hl 1 rfl) ?_
        refine lv_if_eq (tgt := 209) hx hb dX9_failed_201 (by decide) (fun c_12 => ?_) (fun c_12 => ?_)
        · replace hw := hw.1 c_12
          refine lv_iload hx hb dX9_failed_209 (lv_at hl 8 rfl) ?_
          refine lv_istore (lv' := [(11, .int x11), (10, .int v_11), (13, .int r_6), (0, .ref h), (1, .int p1), (5, .int p5), (6, .int p6), (8, .int x8), (9, .int x9), (12, .int x12)]) hx hb dX9_failed_211 hl (by decide) rfl (fun ls hl => ?_)
          refine lv_iinc (v := (x12 + (-1 : Int32))) (lv' := [(12, .int (x12 + (-1 : Int32))), (11, .int x11), (10, .int v_11), (13, .int r_6), (0, .ref h), (1, .int p1), (5, .int p5), (6, .int p6), (8, .int x8), (9, .int x9)]) hx hb dX9_failed_213 hl (k := 9) rfl rfl (by decide) rfl (fun ls hl => ?_)
          refine lv_goto (tgt := 158) hx hb dX9_failed_216 (by decide) ?_
          exact ih u_7.1 u_7.2 aside x8 x9 v_11 x11 (x12 + (-1 : Int32)) H locs (hP.sub [2, 3, 4, 0, 1, 5, 6] rfl) (hD.sub [2, 3, 4, 0, 1, 5, 6] (by decide) rfl) hS ls (lv_sub hl [4, 5, 6, 7, 8, 9, 2, 1, 0] rfl) hw
        · replace hw := hw.2 c_12
          refine lv_iload hx hb dX9_failed_204 (lv_at hl 9 rfl) ?_
          refine lv_goto (tgt := 211) hx hb dX9_failed_206 (by decide) ?_
          refine lv_istore (lv' := [(11, .int x12), (10, .int v_11), (13, .int r_6), (0, .ref h), (1, .int p1), (5, .int p5), (6, .int p6), (8, .int x8), (9, .int x9), (12, .int x12)]) hx hb dX9_failed_211 hl (by decide) rfl (fun ls hl => ?_)
          refine lv_iinc (v := (x12 + (-1 : Int32))) (lv' := [(12, .int (x12 + (-1 : Int32))), (11, .int x12), (10, .int v_11), (13, .int r_6), (0, .ref h), (1, .int p1), (5, .int p5), (6, .int p6), (8, .int x8), (9, .int x9)]) hx hb dX9_failed_213 hl (k := 9) rfl rfl (by decide) rfl (fun ls hl => ?_)
          refine lv_goto (tgt := 158) hx hb dX9_failed_216 (by decide) ?_
          exact ih u_7.1 u_7.2 aside x8 x9 v_11 x12 (x12 + (-1 : Int32)) H locs (hP.sub [2, 3, 4, 0, 1, 5, 6] rfl) (hD.sub [2, 3, 4, 0, 1, 5, 6] (by decide) rfl) hS ls (lv_sub hl [4, 5, 6, 7, 8, 9, 2, 1, 0] rfl) hw
def wp_X9_failed_99 (items : Nat → Int64) (sizes : Nat → Int32) (lanes : Nat → Int32) (p1 : Int32) (p2 : Int32) (p3 : Int32) (p4 : Int32) (p5 : Int32) (p6 : Int32) (Q : Int32 → ((Nat → Int32) × (Nat → Int32) × (Nat → Int32)) → Prop)  : Nat → (Nat → Int32) → (Nat → Int32) → (Nat → Int32) → Int32 → Int32 → Int32 → Prop
  | 0, _, _, _, _, _, _ => False
  | n + 1, sv, less, aside, x8, x9, x10 =>
    ((((4 : Int32) < x10) → (∃ j_ : Nat, wp_X9_failed_158 items sizes lanes p1 p2 p3 p4 p5 p6 Q  j_ sv less aside x8 x9 (0 : Int32) (-4 : Int32) (60 : Int32))) ∧ (¬ ((4 : Int32) < x10) → (vp_in ((16 : Int32) + p1) 161 ∧ ∀ f_3 : Nat → Int32, f_3 = upd sv (((16 : Int32) + p1)).toNatClampNeg x10 → wp_X9_isSo f_3 items less aside p1 x8 p5 (fun r_4 u_5 => (((r_4 = 0) → (∀ v_7 : Int32, v_7 = (x9 ||| (0 : Int32)) → wp_X9_failed_99 items sizes lanes p1 p2 p3 p4 p5 p6 Q  n u_5.1 u_5.2 aside x8 v_7 (x10 + (1 : Int32)))) ∧ (¬ (r_4 = 0) → (∀ v_8 : Int32, v_8 = (x9 ||| ((1 : Int32) <<< (x10 &&& 31))) → wp_X9_failed_99 items sizes lanes p1 p2 p3 p4 p5 p6 Q  n u_5.1 u_5.2 aside x8 v_8 (x10 + (1 : Int32)))))))))
set_option maxHeartbeats 4000000 in
theorem wk_X9_failed_99 {p : Program} {l : Launch} {e : Env} {s : State} {m : MethodId} {below : List Frame} {meth : Method} {c : Code} {args : Array Value} {G : GT} {A : Nat → Prop} (h h_s h_images h_tape h_draft h_items h_moved h_sizes h_lanes h_less h_aside h_order : Nat) (kept : Int32) (typed : Int32) (atv : Int32) (items : Nat → Int64) (sizes : Nat → Int32) (lanes : Nat → Int32) (p1 : Int32) (p2 : Int32) (p3 : Int32) (p4 : Int32) (p5 : Int32) (p6 : Int32) (Q : Int32 → ((Nat → Int32) × (Nat → Int32) × (Nat → Int32)) → Prop)  (C : Cx p s m meth c cX9_failed 14 (some .int) RX9 args G A)  :
    ∀ (n : Nat), ∀  (sv : Nat → Int32) (less : Nat → Int32) (aside : Nat → Int32) (x8 : Int32) (x9 : Int32) (x10 : Int32) (H : Heap) (locs : List Loc), va_P G.1 gCl [oc h 9 [.ref h_s, .ref h_images, .int kept, .ref h_tape, .int typed, .ref h_draft, .int atv, .ref h_items, .ref h_moved, .ref h_sizes, .ref h_lanes, .ref h_less, .ref h_aside, .ref h_order], ai G h_s 161 sv, al G h_items 96 items, ai G h_sizes 4 sizes, ai G h_lanes 4 lanes, ai G h_less 6 less, ai G h_aside 40 aside] H → va_D A [oc h 9 [.ref h_s, .ref h_images, .int kept, .ref h_tape, .int typed, .ref h_draft, .int atv, .ref h_items, .ref h_moved, .ref h_sizes, .ref h_lanes, .ref h_less, .ref h_aside, .ref h_order], ai G h_s 161 sv, al G h_items 96 items, ai G h_sizes 4 sizes, ai G h_lanes 4 lanes, ai G h_less 6 less, ai G h_aside 40 aside] → va_S A s.heap H locs → ∀ (ls : Array Slot), lv_has ls 14 [(0, .ref h), (1, .int p1), (5, .int p5), (6, .int p6), (8, .int x8), (9, .int x9), (10, .int x10)] → wp_X9_failed_99 items sizes lanes p1 p2 p3 p4 p5 p6 Q  n sv less aside x8 x9 x10 → W p l e ({ frames := 6, cells := 0, slots := 0, locals := 138 } : Room) s m args below meth c H locs 0 0 (MQ below (va_Qi (fun (r : Int32) (u : (Nat → Int32) × (Nat → Int32) × (Nat → Int32)) => Q r u) (fun u t => va_P G.1 gCl [oc h 9 [.ref h_s, .ref h_images, .int kept, .ref h_tape, .int typed, .ref h_draft, .int atv, .ref h_items, .ref h_moved, .ref h_sizes, .ref h_lanes, .ref h_less, .ref h_aside, .ref h_order], ai G h_s 161 u.1, al G h_items 96 items, ai G h_sizes 4 sizes, ai G h_lanes 4 lanes, ai G h_less 6 u.2.1, ai G h_aside 40 u.2.2] t.heap ∧ va_D A [oc h 9 [.ref h_s, .ref h_images, .int kept, .ref h_tape, .int typed, .ref h_draft, .int atv, .ref h_items, .ref h_moved, .ref h_sizes, .ref h_lanes, .ref h_less, .ref h_aside, .ref h_order], ai G h_s 161 u.1, al G h_items 96 items, ai G h_sizes 4 sizes, ai G h_lanes 4 lanes, ai G h_less 6 u.2.1, ai G h_aside 40 u.2.2]) A) args s 0 0 A) (F0 m 99 ls []) := by
  have C9 := C
  obtain ⟨hx, hb, hr, hlocks, hml, hown, hts, hK, hA⟩ := C9
  intro n
  induction n with
  | zero => intro sv less aside x8 x9 x10 H locs hP hD hS ls hl hw; exact False.elim hw
  | succ n ih =>
    intro sv less aside x8 x9 x10 H locs hP hD hS ls hl hw
    unfold wp_X9_failed_99 at hw
    refine lv_iload hx hb dX9_failed_99 (lv_at hl 6 rfl) ?_
    refine lv_iconst (v := (4 : Int32)) hx hb dX9_failed_101 (by decide) ?_
    refine lv_icmp_gt (tgt := 147) hx hb dX9_failed_102 (by decide) (fun c_1 => ?_) (fun c_1 => ?_)
    · replace hw := hw.1 c_1
      refine lv_iconst (v := (0 : Int32)) hx hb dX9_failed_147 (by decide) ?_
      refine lv_istore (lv' := [(10, .int (0 : Int32)), (0, .ref h), (1, .int p1), (5, .int p5), (6, .int p6), (8, .int x8), (9, .int x9)]) hx hb dX9_failed_148 hl (by decide) rfl (fun ls hl => ?_)
      refine lv_bipush (v := (-4 : Int32)) hx hb dX9_failed_150 (by decide) ?_
      refine lv_istore (lv' := [(11, .int (-4 : Int32)), (10, .int (0 : Int32)), (0, .ref h), (1, .int p1), (5, .int p5), (6, .int p6), (8, .int x8), (9, .int x9)]) hx hb dX9_failed_152 hl (by decide) rfl (fun ls hl => ?_)
      refine lv_bipush (v := (60 : Int32)) hx hb dX9_failed_154 (by decide) ?_
      refine lv_istore (lv' := [(12, .int (60 : Int32)), (11, .int (-4 : Int32)), (10, .int (0 : Int32)), (0, .ref h), (1, .int p1), (5, .int p5), (6, .int p6), (8, .int x8), (9, .int x9)]) hx hb dX9_failed_156 hl (by decide) rfl (fun ls hl => ?_)
      obtain ⟨j_, hw⟩ := hw
      exact wk_X9_failed_158 h h_s h_images h_tape h_draft h_items h_moved h_sizes h_lanes h_less h_aside h_order kept typed atv items sizes lanes p1 p2 p3 p4 p5 p6  Q  C  j_ sv less aside x8 x9 (0 : Int32) (-4 : Int32) (60 : Int32) H locs hP hD hS ls (lv_sub hl [3, 4, 5, 6, 7, 8, 2, 1, 0] rfl) hw
    · replace hw := hw.2 c_1
      refine lv_aload_n hx hb dX9_failed_105 rfl (lv_at hl 0 rfl) ?_
      refine va_get (D := G.1) (ci := 9) (v := .ref h_s) (C := RX9) (T := TX9) (N := 14) hx hb hts in_X9 hown hK.1 hP 0 rfl rfl 0 (by decide) (hts _ q817) (fun _ h9 => h9) rfl dX9_failed_106 ?_
      refine lv_bipush (v := (16 : Int32)) hx hb dX9_failed_109 (by decide) ?_
      refine lv_iload_n hx hb dX9_failed_111 rfl (lv_at hl 1 rfl) ?_
      refine lv_iadd hx hb dX9_failed_112 ?_
      refine lv_iload hx hb dX9_failed_113 (lv_at hl 6 rfl) ?_
      obtain ⟨i_2, hw⟩ := hw
      refine z_iast hx hb hK.1 hP hD hS 1 0 rfl rfl i_2 dX9_failed_115 (k := (((16 : Int32) + p1)).toNatClampNeg) rfl (fun f_3 ef_3 H locs hP hD hS => ?_)
      replace hw := hw f_3 ef_3
      have hP : va_P G.1 gCl [oc h 9 [.ref h_s, .ref h_images, .int kept, .ref h_tape, .int typed, .ref h_draft, .int atv, .ref h_items, .ref h_moved, .ref h_sizes, .ref h_lanes, .ref h_less, .ref h_aside, .ref h_order], ai G h_s 161 f_3, al G h_items 96 items, ai G h_sizes 4 sizes, ai G h_lanes 4 lanes, ai G h_less 6 less, ai G h_aside 40 aside] H := hP
      have hD : va_D A [oc h 9 [.ref h_s, .ref h_images, .int kept, .ref h_tape, .int typed, .ref h_draft, .int atv, .ref h_items, .ref h_moved, .ref h_sizes, .ref h_lanes, .ref h_less, .ref h_aside, .ref h_order], ai G h_s 161 f_3, al G h_items 96 items, ai G h_sizes 4 sizes, ai G h_lanes 4 lanes, ai G h_less 6 less, ai G h_aside 40 aside] := hD
      refine lv_iload hx hb dX9_failed_116 (lv_at hl 5 rfl) ?_
      refine lv_aload_n hx hb dX9_failed_118 rfl (lv_at hl 0 rfl) ?_
      refine lv_iload_n hx hb dX9_failed_119 rfl (lv_at hl 1 rfl) ?_
      refine lv_iload hx hb dX9_failed_120 (lv_at hl 4 rfl) ?_
      refine lv_iload hx hb dX9_failed_122 (lv_at hl 2 rfl) ?_
      have hPc := hP.sub (ws' := [oc h 9 [.ref h_s, .ref h_images, .int kept, .ref h_tape, .int typed, .ref h_draft, .int atv, .ref h_items, .ref h_moved, .ref h_sizes, .ref h_lanes, .ref h_less, .ref h_aside, .ref h_order], ai G h_s 161 f_3, al G h_items 96 items, ai G h_less 6 less, ai G h_aside 40 aside]) [0, 1, 2, 5, 6] rfl
      have hDc := hD.sub (ws' := [oc h 9 [.ref h_s, .ref h_images, .int kept, .ref h_tape, .int typed, .ref h_draft, .int atv, .ref h_items, .ref h_moved, .ref h_sizes, .ref h_lanes, .ref h_less, .ref h_aside, .ref h_order], ai G h_s 161 f_3, al G h_items 96 items, ai G h_less 6 less, ai G h_aside 40 aside]) [0, 1, 2, 5, 6] (by decide) rfl
      have hFc := va_free (wc := [oc h 9 [.ref h_s, .ref h_images, .int kept, .ref h_tape, .int typed, .ref h_draft, .int atv, .ref h_items, .ref h_moved, .ref h_sizes, .ref h_lanes, .ref h_less, .ref h_aside, .ref h_order], ai G h_s 161 f_3, al G h_items 96 items, ai G h_less 6 less, ai G h_aside 40 aside]) hD hS hA [0, 1, 2, 5, 6] rfl
      refine va_calli (va_runV (As := [.int p1, .int x8, .int p5]) (rest := [.int x9]) ⟨hx, hb, hml, hown, hts⟩ (mt_X9_isSo l G h h_s h_images h_tape h_draft h_items h_moved h_sizes h_lanes h_less h_aside h_order H.size kept typed atv f_3 items less aside p1 x8 p5 _ hw) (cwV 3 hts (lw_V q1096 q1098 qs52 q65 q1099) rfl rfl rfl (by decide +kernel) ⟨Nat.le_of_ble_eq_true rfl, Nat.le_of_ble_eq_true rfl⟩) ⟨fun a U g mk q => by obtain ⟨q0, q1, qP, qK, qD⟩ := q; exact ⟨q0, q1, qP, qK.call, qD⟩, va_recv hK.1 hP (ci := 9) (q0 := 0) rfl rfl, fun U hU hW => ⟨rfl, by rw [hU], by rw [hU]; exact hPc, hK.warm hW, hDc.weaken (fun _ _ _ _ => trivial)⟩⟩ rfl rfl hl.1 rfl (lv_room (Nat.le_of_ble_eq_true rfl)) dX9_failed_124 ⟨Nat.le_of_ble_eq_true rfl, Nat.le_of_ble_eq_true rfl⟩) hS (fun q _ h => hFc q h) hFc (fun r_4 u_5 t H1 locs ht hvm hw hB hz1 hk1 hS => ?_)
      obtain ⟨hP1, hD1⟩ := hB
      rw [ht] at hP1
      obtain ⟨hP, hD⟩ := va_join (wr := [ai G h_sizes 4 sizes, ai G h_lanes 4 lanes]) (w1 := [oc h 9 [.ref h_s, .ref h_images, .int kept, .ref h_tape, .int typed, .ref h_draft, .int atv, .ref h_items, .ref h_moved, .ref h_sizes, .ref h_lanes, .ref h_less, .ref h_aside, .ref h_order], ai G h_s 161 u_5.1, al G h_items 96 items, ai G h_less 6 u_5.2, ai G h_aside 40 aside]) hP hD [0, 1, 2, 5, 6] [3, 4] rfl rfl (by decide) (by decide) hk1 hFc hP1 hD1
      clear hPc hDc hFc hP1 hD1 hz1 hk1 hvm
      generalize H1 = H at hP hS ⊢
      have hP : va_P G.1 gCl [ai G h_sizes 4 sizes, ai G h_lanes 4 lanes, oc h 9 [.ref h_s, .ref h_images, .int kept, .ref h_tape, .int typed, .ref h_draft, .int atv, .ref h_items, .ref h_moved, .ref h_sizes, .ref h_lanes, .ref h_less, .ref h_aside, .ref h_order], ai G h_s 161 u_5.1, al G h_items 96 items, ai G h_less 6 u_5.2, ai G h_aside 40 aside] H := hP
      have hD : va_D A [ai G h_sizes 4 sizes, ai G h_lanes 4 lanes, oc h 9 [.ref h_s, .ref h_images, .int kept, .ref h_tape, .int typed, .ref h_draft, .int atv, .ref h_items, .ref h_moved, .ref h_sizes, .ref h_lanes, .ref h_less, .ref h_aside, .ref h_order], ai G h_s 161 u_5.1, al G h_items 96 items, ai G h_less 6 u_5.2, ai G h_aside 40 aside] := hD
      refine lv_if_eq (tgt := 137) hx hb dX9_failed_127 (by decide) (fun c_6 => ?_) (fun c_6 => ?_)
      · replace hw := hw.1 c_6
        refine lv_iconst (v := (0 : Int32)) hx hb dX9_failed_137 (by decide) ?_
        refine lv_ior hx hb dX9_failed_138 ?_
        refine lv_topi (fun v_7 ev_7 => ?_)
        replace hw := hw v_7 ev_7
        refine lv_istore (lv' := [(9, .int v_7), (0, .ref h), (1, .int p1), (5, .int p5), (6, .int p6), (8, .int x8), (10, .int x10)]) hx hb dX9_failed_139 hl (by decide) rfl (fun ls hl => ?_)
        refine lv_iinc (v := (x10 + (1 : Int32))) (lv' := [(10, .int (x10 + (1 : Int32))), (9, .int v_7), (0, .ref h), (1, .int p1), (5, .int p5), (6, .int p6), (8, .int x8)]) hx hb dX9_failed_141 hl (k := 6) rfl rfl (by decide) rfl (fun ls hl => ?_)
        refine lv_goto (tgt := 99) hx hb dX9_failed_144 (by decide) ?_
        exact ih u_5.1 u_5.2 aside x8 v_7 (x10 + (1 : Int32)) H locs (hP.sub [2, 3, 4, 0, 1, 5, 6] rfl) (hD.sub [2, 3, 4, 0, 1, 5, 6] (by decide) rfl) hS ls (lv_sub hl [2, 3, 4, 5, 6, 1, 0] rfl) hw
      · replace hw := hw.2 c_6
        refine lv_iconst (v := (1 : Int32)) hx hb dX9_failed_130 (by decide) ?_
        refine lv_iload hx hb dX9_failed_131 (lv_at hl 6 rfl) ?_
        refine lv_ishl hx hb dX9_failed_133 ?_
        refine lv_goto (tgt := 138) hx hb dX9_failed_134 (by decide) ?_
        refine lv_ior hx hb dX9_failed_138 ?_
        refine lv_topi (fun v_8 ev_8 => ?_)
        replace hw := hw v_8 ev_8
        refine lv_istore (lv' := [(9, .int v_8), (0, .ref h), (1, .int p1), (5, .int p5), (6, .int p6), (8, .int x8), (10, .int x10)]) hx hb dX9_failed_139 hl (by decide) rfl (fun ls hl => ?_)
        refine lv_iinc (v := (x10 + (1 : Int32))) (lv' := [(10, .int (x10 + (1 : Int32))), (9, .int v_8), (0, .ref h), (1, .int p1), (5, .int p5), (6, .int p6), (8, .int x8)]) hx hb dX9_failed_141 hl (k := 6) rfl rfl (by decide) rfl (fun ls hl => ?_)
        refine lv_goto (tgt := 99) hx hb dX9_failed_144 (by decide) ?_
        exact ih u_5.1 u_5.2 aside x8 v_8 (x10 + (1 : Int32)) H locs (hP.sub [2, 3, 4, 0, 1, 5, 6] rfl) (hD.sub [2, 3, 4, 0, 1, 5, 6] (by decide) rfl) hS ls (lv_sub hl [2, 3, 4, 5, 6, 1, 0] rfl) hw
def wp_X9_failed (sv : Nat → Int32) (items : Nat → Int64) (sizes : Nat → Int32) (lanes : Nat → Int32) (less : Nat → Int32) (aside : Nat → Int32) (p1 : Int32) (p2 : Int32) (p3 : Int32) (p4 : Int32) (p5 : Int32) (p6 : Int32) (Q : Int32 → ((Nat → Int32) × (Nat → Int32) × (Nat → Int32)) → Prop) : Prop :=
  wp_X9_isMan sv p1 (fun r_1 => (((r_1 = 0) → Q (-1 : Int32) (sv, less, aside)) ∧ (¬ (r_1 = 0) → wp_X9_isSheet  p2 (fun r_3 => (((r_3 = 0) → Q (-1 : Int32) (sv, less, aside)) ∧ (¬ (r_3 = 0) → wp_X9_in  p3 (0 : Int32) (3 : Int32) (fun r_5 => (((r_5 = 0) → Q (-1 : Int32) (sv, less, aside)) ∧ (¬ (r_5 = 0) → wp_X9_in  p5 (1 : Int32) (8 : Int32) (fun r_7 => (((r_7 = 0) → Q (-1 : Int32) (sv, less, aside)) ∧ (¬ (r_7 = 0) → wp_X9_in  p6 (0 : Int32) (2 : Int32) (fun r_9 => ((¬ (r_9 = 0) → wp_X9_barred sizes lanes p2 p3 p4 p5 (fun r_11 => (((r_11 = 0) → wp_X9_seatOf sv p1 (fun r_13 => ((¬ (r_13 = (-4 : Int32)) → wp_X9_holds sv aside  (fun u_15 => (∀ v_16 : Int32, v_16 = (((24 : Int32) * p2) + p4) → (∃ j_ : Nat, wp_X9_failed_99 items sizes lanes p1 p2 p3 p4 p5 p6 Q  j_ sv less u_15 v_16 (0 : Int32) (0 : Int32))))) ∧ ((r_13 = (-4 : Int32)) → Q (-2 : Int32) (sv, less, aside))))) ∧ (¬ (r_11 = 0) → Q r_11 (sv, less, aside))))) ∧ ((r_9 = 0) → Q (-1 : Int32) (sv, less, aside))))))))))))))))
set_option maxHeartbeats 4000000 in
theorem mt_X9_failed (l : Launch) (G : GT) (h h_s h_images h_tape h_draft h_items h_moved h_sizes h_lanes h_less h_aside h_order : Nat) (sz : Nat) (kept : Int32) (typed : Int32) (atv : Int32) (sv : Nat → Int32) (items : Nat → Int64) (sizes : Nat → Int32) (lanes : Nat → Int32) (less : Nat → Int32) (aside : Nat → Int32) (p1 : Int32) (p2 : Int32) (p3 : Int32) (p4 : Int32) (p5 : Int32) (p6 : Int32) (Q : Int32 → ((Nat → Int32) × (Nat → Int32) × (Nat → Int32)) → Prop) (hw : wp_X9_failed sv items sizes lanes less aside p1 p2 p3 p4 p5 p6 Q) : Met l yX9_failed (ws_ yX9_failed cX9_failed 14 (some .int)) ({ frames := 6, cells := 0, slots := 0, locals := 138 } : Room) (va_Pc [.ref h, .int p1, .int p2, .int p3, .int p4, .int p5, .int p6] (fun U => U.heap.size = sz ∧ va_P G.1 gCl [oc h 9 [.ref h_s, .ref h_images, .int kept, .ref h_tape, .int typed, .ref h_draft, .int atv, .ref h_items, .ref h_moved, .ref h_sizes, .ref h_lanes, .ref h_less, .ref h_aside, .ref h_order], ai G h_s 161 sv, al G h_items 96 items, ai G h_sizes 4 sizes, ai G h_lanes 4 lanes, ai G h_less 6 less, ai G h_aside 40 aside] U.heap ∧ gK G U ∧ va_D (fun _ => True) [oc h 9 [.ref h_s, .ref h_images, .int kept, .ref h_tape, .int typed, .ref h_draft, .int atv, .ref h_items, .ref h_moved, .ref h_sizes, .ref h_lanes, .ref h_less, .ref h_aside, .ref h_order], ai G h_s 161 sv, al G h_items 96 items, ai G h_sizes 4 sizes, ai G h_lanes 4 lanes, ai G h_less 6 less, ai G h_aside 40 aside])) ((fun A => (va_Qi (fun (r : Int32) (u : (Nat → Int32) × (Nat → Int32) × (Nat → Int32)) => Q r u) (fun u t => va_P G.1 gCl [oc h 9 [.ref h_s, .ref h_images, .int kept, .ref h_tape, .int typed, .ref h_draft, .int atv, .ref h_items, .ref h_moved, .ref h_sizes, .ref h_lanes, .ref h_less, .ref h_aside, .ref h_order], ai G h_s 161 u.1, al G h_items 96 items, ai G h_sizes 4 sizes, ai G h_lanes 4 lanes, ai G h_less 6 u.2.1, ai G h_aside 40 u.2.2] t.heap ∧ va_D A [oc h 9 [.ref h_s, .ref h_images, .int kept, .ref h_tape, .int typed, .ref h_draft, .int atv, .ref h_items, .ref h_moved, .ref h_sizes, .ref h_lanes, .ref h_less, .ref h_aside, .ref h_order], ai G h_s 161 u.1, al G h_items 96 items, ai G h_sizes 4 sizes, ai G h_lanes 4 lanes, ai G h_less 6 u.2.1, ai G h_aside 40 u.2.2]) A)) (va_A [oc h 9 [.ref h_s, .ref h_images, .int kept, .ref h_tape, .int typed, .ref h_draft, .int atv, .ref h_items, .ref h_moved, .ref h_sizes, .ref h_lanes, .ref h_less, .ref h_aside, .ref h_order], ai G h_s 161 sv, al G h_items 96 items, ai G h_sizes 4 sizes, ai G h_lanes 4 lanes, ai G h_less 6 less, ai G h_aside 40 aside] sz)) 0 0 (va_A [oc h 9 [.ref h_s, .ref h_images, .int kept, .ref h_tape, .int typed, .ref h_draft, .int atv, .ref h_items, .ref h_moved, .ref h_sizes, .ref h_lanes, .ref h_less, .ref h_aside, .ref h_order], ai G h_s 161 sv, al G h_items 96 items, ai G h_sizes 4 sizes, ai G h_lanes 4 lanes, ai G h_less 6 less, ai G h_aside 40 aside] sz) := by
  refine Met.ofW (cc := cX9_failed) (maxL := 14) (ret := (some .int)) (by decide) rfl ?_
  intro p e s m args below meth c s₁ B hml hv
  obtain ⟨rfl, hsz, hP, hK, hD0⟩ := hv
  have hx := B.exec
  have hb := B.bytes
  have hr := B.returns
  have hts := atoms_spec (ws := (ws_ yX9_failed cX9_failed 14 (some .int))) B.pre
  have hts : ∀ w ∈ lw_all, w.before _ s = true := fun w h => hts w (List.mem_cons_of_mem _ h)
  have hown : s.vm.findClass RX9 = some m.cls := findClass_of_methodNamed B.named
  have hlocks := B.notSynchronized
  subst hsz
  have hD := hD0.self (sz := s.heap.size)
  generalize hAe : va_A [oc h 9 [.ref h_s, .ref h_images, .int kept, .ref h_tape, .int typed, .ref h_draft, .int atv, .ref h_items, .ref h_moved, .ref h_sizes, .ref h_lanes, .ref h_less, .ref h_aside, .ref h_order], ai G h_s 161 sv, al G h_items 96 items, ai G h_sizes 4 sizes, ai G h_lanes 4 lanes, ai G h_less 6 less, ai G h_aside 40 aside] s.heap.size = A at hD ⊢
  have hA : ∀ q : Nat, s.heap.size ≤ q → A q := fun q h => by rw [← hAe]; exact Or.inr h
  have hS : va_S A s.heap s.heap [] := va_S.rf
  have C : Cx p s m meth c cX9_failed 14 (some .int) RX9 ([.ref h, .int p1, .int p2, .int p3, .int p4, .int p5, .int p6] : List Value).toArray G A := ⟨hx, hb, hr, hlocks, hml, hown, hts, hK, hA⟩
  have hl := lv_entry ([.ref h, .int p1, .int p2, .int p3, .int p4, .int p5, .int p6]) (n := 14) (Nat.le_of_ble_eq_true rfl)
  rw [lg_entry_eq]
  generalize (lg_sl ([.ref h, .int p1, .int p2, .int p3, .int p4, .int p5, .int p6]) ++ List.replicate (14 - (lg_sl ([.ref h, .int p1, .int p2, .int p3, .int p4, .int p5, .int p6])).length) Slot.unset).toArray = ls at hl ⊢
  have hl : lv_has ls 14 [(0, .ref h), (1, .int p1), (2, .int p2), (3, .int p3), (4, .int p4), (5, .int p5), (6, .int p6)] := hl
  unfold wp_X9_failed at hw
  refine lv_aload_n hx hb dX9_failed_0 rfl (lv_at hl 0 rfl) ?_
  refine lv_iload_n hx hb dX9_failed_1 rfl (lv_at hl 1 rfl) ?_
  have hPc := hP.sub (ws' := [oc h 9 [.ref h_s, .ref h_images, .int kept, .ref h_tape, .int typed, .ref h_draft, .int atv, .ref h_items, .ref h_moved, .ref h_sizes, .ref h_lanes, .ref h_less, .ref h_aside, .ref h_order], ai G h_s 161 sv]) [0, 1] rfl
  have hDc := hD.sub (ws' := [oc h 9 [.ref h_s, .ref h_images, .int kept, .ref h_tape, .int typed, .ref h_draft, .int atv, .ref h_items, .ref h_moved, .ref h_sizes, .ref h_lanes, .ref h_less, .ref h_aside, .ref h_order], ai G h_s 161 sv]) [0, 1] (by decide) rfl
  have hFc := va_free (wc := [oc h 9 [.ref h_s, .ref h_images, .int kept, .ref h_tape, .int typed, .ref h_draft, .int atv, .ref h_items, .ref h_moved, .ref h_sizes, .ref h_lanes, .ref h_less, .ref h_aside, .ref h_order], ai G h_s 161 sv]) hD hS hA [0, 1] rfl
  refine va_calli (va_runV (As := [.int p1]) (rest := []) ⟨hx, hb, hml, hown, hts⟩ (mt_X9_isMan l G h h_s h_images h_tape h_draft h_items h_moved h_sizes h_lanes h_less h_aside h_order s.heap.size kept typed atv sv p1 _ hw) (cwV 1 hts (lw_V q875 q877 qs27 q65 q878) rfl rfl rfl (by decide +kernel) ⟨Nat.le_of_ble_eq_true rfl, Nat.le_of_ble_eq_true rfl⟩) ⟨fun a U g mk q => by obtain ⟨q0, q1, qP, qK, qD⟩ := q; exact ⟨q0, q1, qP, qK.call, qD⟩, va_recv hK.1 hP (ci := 9) (q0 := 0) rfl rfl, fun U hU hW => ⟨rfl, by rw [hU], by rw [hU]; exact hPc, hK.warm hW, hDc.weaken (fun _ _ _ _ => trivial)⟩⟩ rfl rfl hl.1 rfl (lv_room (Nat.le_of_ble_eq_true rfl)) dX9_failed_2 ⟨Nat.le_of_ble_eq_true rfl, Nat.le_of_ble_eq_true rfl⟩) hS (fun q _ h => hFc q h) hFc (fun r_1 _ t H1 locs ht hvm hw hB hz1 hk1 hS => ?_)
  obtain ⟨hP1, hD1⟩ := hB
  rw [ht] at hP1
  obtain ⟨hP, hD⟩ := va_join (wr := [al G h_items 96 items, ai G h_sizes 4 sizes, ai G h_lanes 4 lanes, ai G h_less 6 less, ai G h_aside 40 aside]) (w1 := [oc h 9 [.ref h_s, .ref h_images, .int kept, .ref h_tape, .int typed, .ref h_draft, .int atv, .ref h_items, .ref h_moved, .ref h_sizes, .ref h_lanes, .ref h_less, .ref h_aside, .ref h_order], ai G h_s 161 sv]) hP hD [0, 1] [2, 3, 4, 5, 6] rfl rfl (by decide) (by decide) hk1 hFc hP1 hD1
  clear hPc hDc hFc hP1 hD1 hz1 hk1 hvm
  generalize H1 = H at hP hS ⊢
  have hP : va_P G.1 gCl [al G h_items 96 items, ai G h_sizes 4 sizes, ai G h_lanes 4 lanes, ai G h_less 6 less, ai G h_aside 40 aside, oc h 9 [.ref h_s, .ref h_images, .int kept, .ref h_tape, .int typed, .ref h_draft, .int atv, .ref h_items, .ref h_moved, .ref h_sizes, .ref h_lanes, .ref h_less, .ref h_aside, .ref h_order], ai G h_s 161 sv] H := hP
  have hD : va_D A [al G h_items 96 items, ai G h_sizes 4 sizes, ai G h_lanes 4 lanes, ai G h_less 6 less, ai G h_aside 40 aside, oc h 9 [.ref h_s, .ref h_images, .int kept, .ref h_tape, .int typed, .ref h_draft, .int atv, .ref h_items, .ref h_moved, .ref h_sizes, .ref h_lanes, .ref h_less, .ref h_aside, .ref h_order], ai G h_s 161 sv] := hD
  refine lv_if_eq (tgt := 45) hx hb dX9_failed_5 (by decide) (fun c_2 => ?_) (fun c_2 => ?_)
  · replace hw := hw.1 c_2
    refine lv_iconst (v := (-1 : Int32)) hx hb dX9_failed_45 (by decide) ?_
    have hP9 := hP.sub (ws' := [oc h 9 [.ref h_s, .ref h_images, .int kept, .ref h_tape, .int typed, .ref h_draft, .int atv, .ref h_items, .ref h_moved, .ref h_sizes, .ref h_lanes, .ref h_less, .ref h_aside, .ref h_order], ai G h_s 161 sv, al G h_items 96 items, ai G h_sizes 4 sizes, ai G h_lanes 4 lanes, ai G h_less 6 less, ai G h_aside 40 aside]) [5, 6, 0, 1, 2, 3, 4] rfl
    have hD9 := hD.sub (ws' := [oc h 9 [.ref h_s, .ref h_images, .int kept, .ref h_tape, .int typed, .ref h_draft, .int atv, .ref h_items, .ref h_moved, .ref h_sizes, .ref h_lanes, .ref h_less, .ref h_aside, .ref h_order], ai G h_s 161 sv, al G h_items 96 items, ai G h_sizes 4 sizes, ai G h_lanes 4 lanes, ai G h_less 6 less, ai G h_aside 40 aside]) [5, 6, 0, 1, 2, 3, 4] (by decide) rfl
    exact W.iret (v := (-1 : Int32)) hx hb hr (fun t ht hW => ⟨⟨(-1 : Int32), (sv, less, aside), rfl, hw, by rw [ht]; exact hP9, hD9⟩, hS.F ht⟩) hS.2.2 dX9_failed_46
  · replace hw := hw.2 c_2
    refine lv_iload_n hx hb dX9_failed_8 rfl (lv_at hl 2 rfl) ?_
    have hPc := hP.sub (ws' := []) [] rfl
    have hDc := hD.sub (ws' := []) [] (by decide) rfl
    have hFc := va_free (wc := []) hD hS hA [] rfl
    refine va_calli (va_runS (As := [.int p2]) (rest := []) ⟨hx, hb, hml, hown, hts⟩ (mt_X9_isSheet l G  H.size  p2 _ hw) (va_cwS 1 hts (lw_S q1089 q1090 q65 q1091) rfl rfl rfl (by decide +kernel) ⟨Nat.le_of_ble_eq_true rfl, Nat.le_of_ble_eq_true rfl⟩) ⟨fun a U g mk q => by obtain ⟨q0, q1, qP, qK, qD⟩ := q; exact ⟨q0, q1, qP, qK.call, qD⟩, fun U hU hW => ⟨rfl, by rw [hU], by rw [hU]; exact hPc, hK.warm hW, hDc.weaken (fun _ _ _ _ => trivial)⟩⟩ rfl rfl hl.1 rfl (lv_room (Nat.le_of_ble_eq_true rfl)) dX9_failed_9 ⟨Nat.le_of_ble_eq_true rfl, Nat.le_of_ble_eq_true rfl⟩) hS (fun q _ h => hFc q h) hFc (fun r_3 _ t H1 locs ht hvm hw hB hz1 hk1 hS => ?_)
    obtain ⟨hP1, hD1⟩ := hB
    rw [ht] at hP1
    obtain ⟨hP, hD⟩ := va_join (wr := [al G h_items 96 items, ai G h_sizes 4 sizes, ai G h_lanes 4 lanes, ai G h_less 6 less, ai G h_aside 40 aside, oc h 9 [.ref h_s, .ref h_images, .int kept, .ref h_tape, .int typed, .ref h_draft, .int atv, .ref h_items, .ref h_moved, .ref h_sizes, .ref h_lanes, .ref h_less, .ref h_aside, .ref h_order], ai G h_s 161 sv]) (w1 := []) hP hD [] [0, 1, 2, 3, 4, 5, 6] rfl rfl (by decide) (by decide) hk1 hFc hP1 hD1
    clear hPc hDc hFc hP1 hD1 hz1 hk1 hvm
    generalize H1 = H at hP hS ⊢
    have hP : va_P G.1 gCl [al G h_items 96 items, ai G h_sizes 4 sizes, ai G h_lanes 4 lanes, ai G h_less 6 less, ai G h_aside 40 aside, oc h 9 [.ref h_s, .ref h_images, .int kept, .ref h_tape, .int typed, .ref h_draft, .int atv, .ref h_items, .ref h_moved, .ref h_sizes, .ref h_lanes, .ref h_less, .ref h_aside, .ref h_order], ai G h_s 161 sv] H := hP
    have hD : va_D A [al G h_items 96 items, ai G h_sizes 4 sizes, ai G h_lanes 4 lanes, ai G h_less 6 less, ai G h_aside 40 aside, oc h 9 [.ref h_s, .ref h_images, .int kept, .ref h_tape, .int typed, .ref h_draft, .int atv, .ref h_items, .ref h_moved, .ref h_sizes, .ref h_lanes, .ref h_less, .ref h_aside, .ref h_order], ai G h_s 161 sv] := hD
    refine lv_if_eq (tgt := 45) hx hb dX9_failed_12 (by decide) (fun c_4 => ?_) (fun c_4 => ?_)
    · replace hw := hw.1 c_4
      refine lv_iconst (v := (-1 : Int32)) hx hb dX9_failed_45 (by decide) ?_
      have hP9 := hP.sub (ws' := [oc h 9 [.ref h_s, .ref h_images, .int kept, .ref h_tape, .int typed, .ref h_draft, .int atv, .ref h_items, .ref h_moved, .ref h_sizes, .ref h_lanes, .ref h_less, .ref h_aside, .ref h_order], ai G h_s 161 sv, al G h_items 96 items, ai G h_sizes 4 sizes, ai G h_lanes 4 lanes, ai G h_less 6 less, ai G h_aside 40 aside]) [5, 6, 0, 1, 2, 3, 4] rfl
      have hD9 := hD.sub (ws' := [oc h 9 [.ref h_s, .ref h_images, .int kept, .ref h_tape, .int typed, .ref h_draft, .int atv, .ref h_items, .ref h_moved, .ref h_sizes, .ref h_lanes, .ref h_less, .ref h_aside, .ref h_order], ai G h_s 161 sv, al G h_items 96 items, ai G h_sizes 4 sizes, ai G h_lanes 4 lanes, ai G h_less 6 less, ai G h_aside 40 aside]) [5, 6, 0, 1, 2, 3, 4] (by decide) rfl
      exact W.iret (v := (-1 : Int32)) hx hb hr (fun t ht hW => ⟨⟨(-1 : Int32), (sv, less, aside), rfl, hw, by rw [ht]; exact hP9, hD9⟩, hS.F ht⟩) hS.2.2 dX9_failed_46
    · replace hw := hw.2 c_4
      refine lv_iload_n hx hb dX9_failed_15 rfl (lv_at hl 3 rfl) ?_
      refine lv_iconst (v := (0 : Int32)) hx hb dX9_failed_16 (by decide) ?_
      refine lv_iconst (v := (3 : Int32)) hx hb dX9_failed_17 (by decide) ?_
      have hPc := hP.sub (ws' := []) [] rfl
      have hDc := hD.sub (ws' := []) [] (by decide) rfl
      have hFc := va_free (wc := []) hD hS hA [] rfl
      refine va_calli (va_runS (As := [.int p3, .int (0 : Int32), .int (3 : Int32)]) (rest := []) ⟨hx, hb, hml, hown, hts⟩ (mt_X9_in l G  H.size  p3 (0 : Int32) (3 : Int32) _ hw) (va_cwS 3 hts (lw_S q864 q865 q65 q866) rfl rfl rfl (by decide +kernel) ⟨Nat.le_of_ble_eq_true rfl, Nat.le_of_ble_eq_true rfl⟩) ⟨fun a U g mk q => by obtain ⟨q0, q1, qP, qK, qD⟩ := q; exact ⟨q0, q1, qP, qK.call, qD⟩, fun U hU hW => ⟨rfl, by rw [hU], by rw [hU]; exact hPc, hK.warm hW, hDc.weaken (fun _ _ _ _ => trivial)⟩⟩ rfl rfl hl.1 rfl (lv_room (Nat.le_of_ble_eq_true rfl)) dX9_failed_18 ⟨Nat.le_of_ble_eq_true rfl, Nat.le_of_ble_eq_true rfl⟩) hS (fun q _ h => hFc q h) hFc (fun r_5 _ t H1 locs ht hvm hw hB hz1 hk1 hS => ?_)
      obtain ⟨hP1, hD1⟩ := hB
      rw [ht] at hP1
      obtain ⟨hP, hD⟩ := va_join (wr := [al G h_items 96 items, ai G h_sizes 4 sizes, ai G h_lanes 4 lanes, ai G h_less 6 less, ai G h_aside 40 aside, oc h 9 [.ref h_s, .ref h_images, .int kept, .ref h_tape, .int typed, .ref h_draft, .int atv, .ref h_items, .ref h_moved, .ref h_sizes, .ref h_lanes, .ref h_less, .ref h_aside, .ref h_order], ai G h_s 161 sv]) (w1 := []) hP hD [] [0, 1, 2, 3, 4, 5, 6] rfl rfl (by decide) (by decide) hk1 hFc hP1 hD1
      clear hPc hDc hFc hP1 hD1 hz1 hk1 hvm
      generalize H1 = H at hP hS ⊢
      have hP : va_P G.1 gCl [al G h_items 96 items, ai G h_sizes 4 sizes, ai G h_lanes 4 lanes, ai G h_less 6 less, ai G h_aside 40 aside, oc h 9 [.ref h_s, .ref h_images, .int kept, .ref h_tape, .int typed, .ref h_draft, .int atv, .ref h_items, .ref h_moved, .ref h_sizes, .ref h_lanes, .ref h_less, .ref h_aside, .ref h_order], ai G h_s 161 sv] H := hP
      have hD : va_D A [al G h_items 96 items, ai G h_sizes 4 sizes, ai G h_lanes 4 lanes, ai G h_less 6 less, ai G h_aside 40 aside, oc h 9 [.ref h_s, .ref h_images, .int kept, .ref h_tape, .int typed, .ref h_draft, .int atv, .ref h_items, .ref h_moved, .ref h_sizes, .ref h_lanes, .ref h_less, .ref h_aside, .ref h_order], ai G h_s 161 sv] := hD
      refine lv_if_eq (tgt := 45) hx hb dX9_failed_21 (by decide) (fun c_6 => ?_) (fun c_6 => ?_)
      · replace hw := hw.1 c_6
        refine lv_iconst (v := (-1 : Int32)) hx hb dX9_failed_45 (by decide) ?_
        have hP9 := hP.sub (ws' := [oc h 9 [.ref h_s, .ref h_images, .int kept, .ref h_tape, .int typed, .ref h_draft, .int atv, .ref h_items, .ref h_moved, .ref h_sizes, .ref h_lanes, .ref h_less, .ref h_aside, .ref h_order], ai G h_s 161 sv, al G h_items 96 items, ai G h_sizes 4 sizes, ai G h_lanes 4 lanes, ai G h_less 6 less, ai G h_aside 40 aside]) [5, 6, 0, 1, 2, 3, 4] rfl
        have hD9 := hD.sub (ws' := [oc h 9 [.ref h_s, .ref h_images, .int kept, .ref h_tape, .int typed, .ref h_draft, .int atv, .ref h_items, .ref h_moved, .ref h_sizes, .ref h_lanes, .ref h_less, .ref h_aside, .ref h_order], ai G h_s 161 sv, al G h_items 96 items, ai G h_sizes 4 sizes, ai G h_lanes 4 lanes, ai G h_less 6 less, ai G h_aside 40 aside]) [5, 6, 0, 1, 2, 3, 4] (by decide) rfl
        exact W.iret (v := (-1 : Int32)) hx hb hr (fun t ht hW => ⟨⟨(-1 : Int32), (sv, less, aside), rfl, hw, by rw [ht]; exact hP9, hD9⟩, hS.F ht⟩) hS.2.2 dX9_failed_46
      · replace hw := hw.2 c_6
        refine lv_iload hx hb dX9_failed_24 (lv_at hl 5 rfl) ?_
        refine lv_iconst (v := (1 : Int32)) hx hb dX9_failed_26 (by decide) ?_
        refine lv_bipush (v := (8 : Int32)) hx hb dX9_failed_27 (by decide) ?_
        have hPc := hP.sub (ws' := []) [] rfl
        have hDc := hD.sub (ws' := []) [] (by decide) rfl
        have hFc := va_free (wc := []) hD hS hA [] rfl
        refine va_calli (va_runS (As := [.int p5, .int (1 : Int32), .int (8 : Int32)]) (rest := []) ⟨hx, hb, hml, hown, hts⟩ (mt_X9_in l G  H.size  p5 (1 : Int32) (8 : Int32) _ hw) (va_cwS 3 hts (lw_S q864 q865 q65 q866) rfl rfl rfl (by decide +kernel) ⟨Nat.le_of_ble_eq_true rfl, Nat.le_of_ble_eq_true rfl⟩) ⟨fun a U g mk q => by obtain ⟨q0, q1, qP, qK, qD⟩ := q; exact ⟨q0, q1, qP, qK.call, qD⟩, fun U hU hW => ⟨rfl, by rw [hU], by rw [hU]; exact hPc, hK.warm hW, hDc.weaken (fun _ _ _ _ => trivial)⟩⟩ rfl rfl hl.1 rfl (lv_room (Nat.le_of_ble_eq_true rfl)) dX9_failed_29 ⟨Nat.le_of_ble_eq_true rfl, Nat.le_of_ble_eq_true rfl⟩) hS (fun q _ h => hFc q h) hFc (fun r_7 _ t H1 locs ht hvm hw hB hz1 hk1 hS => ?_)
        obtain ⟨hP1, hD1⟩ := hB
        rw [ht] at hP1
        obtain ⟨hP, hD⟩ := va_join (wr := [al G h_items 96 items, ai G h_sizes 4 sizes, ai G h_lanes 4 lanes, ai G h_less 6 less, ai G h_aside 40 aside, oc h 9 [.ref h_s, .ref h_images, .int kept, .ref h_tape, .int typed, .ref h_draft, .int atv, .ref h_items, .ref h_moved, .ref h_sizes, .ref h_lanes, .ref h_less, .ref h_aside, .ref h_order], ai G h_s 161 sv]) (w1 := []) hP hD [] [0, 1, 2, 3, 4, 5, 6] rfl rfl (by decide) (by decide) hk1 hFc hP1 hD1
        clear hPc hDc hFc hP1 hD1 hz1 hk1 hvm
        generalize H1 = H at hP hS ⊢
        have hP : va_P G.1 gCl [al G h_items 96 items, ai G h_sizes 4 sizes, ai G h_lanes 4 lanes, ai G h_less 6 less, ai G h_aside 40 aside, oc h 9 [.ref h_s, .ref h_images, .int kept, .ref h_tape, .int typed, .ref h_draft, .int atv, .ref h_items, .ref h_moved, .ref h_sizes, .ref h_lanes, .ref h_less, .ref h_aside, .ref h_order], ai G h_s 161 sv] H := hP
        have hD : va_D A [al G h_items 96 items, ai G h_sizes 4 sizes, ai G h_lanes 4 lanes, ai G h_less 6 less, ai G h_aside 40 aside, oc h 9 [.ref h_s, .ref h_images, .int kept, .ref h_tape, .int typed, .ref h_draft, .int atv, .ref h_items, .ref h_moved, .ref h_sizes, .ref h_lanes, .ref h_less, .ref h_aside, .ref h_order], ai G h_s 161 sv] := hD
        refine lv_if_eq (tgt := 45) hx hb dX9_failed_32 (by decide) (fun c_8 => ?_) (fun c_8 => ?_)
        · replace hw := hw.1 c_8
          refine lv_iconst (v := (-1 : Int32)) hx hb dX9_failed_45 (by decide) ?_
          have hP9 := hP.sub (ws' := [oc h 9 [.ref h_s, .ref h_images, .int kept, .ref h_tape, .int typed, .ref h_draft, .int atv, .ref h_items, .ref h_moved, .ref h_sizes, .ref h_lanes, .ref h_less, .ref h_aside, .ref h_order], ai G h_s 161 sv, al G h_items 96 items, ai G h_sizes 4 sizes, ai G h_lanes 4 lanes, ai G h_less 6 less, ai G h_aside 40 aside]) [5, 6, 0, 1, 2, 3, 4] rfl
          have hD9 := hD.sub (ws' := [oc h 9 [.ref h_s, .ref h_images, .int kept, .ref h_tape, .int typed, .ref h_draft, .int atv, .ref h_items, .ref h_moved, .ref h_sizes, .ref h_lanes, .ref h_less, .ref h_aside, .ref h_order], ai G h_s 161 sv, al G h_items 96 items, ai G h_sizes 4 sizes, ai G h_lanes 4 lanes, ai G h_less 6 less, ai G h_aside 40 aside]) [5, 6, 0, 1, 2, 3, 4] (by decide) rfl
          exact W.iret (v := (-1 : Int32)) hx hb hr (fun t ht hW => ⟨⟨(-1 : Int32), (sv, less, aside), rfl, hw, by rw [ht]; exact hP9, hD9⟩, hS.F ht⟩) hS.2.2 dX9_failed_46
        · replace hw := hw.2 c_8
          refine lv_iload hx hb dX9_failed_35 (lv_at hl 6 rfl) ?_
          refine lv_iconst (v := (0 : Int32)) hx hb dX9_failed_37 (by decide) ?_
          refine lv_iconst (v := (2 : Int32)) hx hb dX9_failed_38 (by decide) ?_
          have hPc := hP.sub (ws' := []) [] rfl
          have hDc := hD.sub (ws' := []) [] (by decide) rfl
          have hFc := va_free (wc := []) hD hS hA [] rfl
          refine va_calli (va_runS (As := [.int p6, .int (0 : Int32), .int (2 : Int32)]) (rest := []) ⟨hx, hb, hml, hown, hts⟩ (mt_X9_in l G  H.size  p6 (0 : Int32) (2 : Int32) _ hw) (va_cwS 3 hts (lw_S q864 q865 q65 q866) rfl rfl rfl (by decide +kernel) ⟨Nat.le_of_ble_eq_true rfl, Nat.le_of_ble_eq_true rfl⟩) ⟨fun a U g mk q => by obtain ⟨q0, q1, qP, qK, qD⟩ := q; exact ⟨q0, q1, qP, qK.call, qD⟩, fun U hU hW => ⟨rfl, by rw [hU], by rw [hU]; exact hPc, hK.warm hW, hDc.weaken (fun _ _ _ _ => trivial)⟩⟩ rfl rfl hl.1 rfl (lv_room (Nat.le_of_ble_eq_true rfl)) dX9_failed_39 ⟨Nat.le_of_ble_eq_true rfl, Nat.le_of_ble_eq_true rfl⟩) hS (fun q _ h => hFc q h) hFc (fun r_9 _ t H1 locs ht hvm hw hB hz1 hk1 hS => ?_)
          obtain ⟨hP1, hD1⟩ := hB
          rw [ht] at hP1
          obtain ⟨hP, hD⟩ := va_join (wr := [al G h_items 96 items, ai G h_sizes 4 sizes, ai G h_lanes 4 lanes, ai G h_less 6 less, ai G h_aside 40 aside, oc h 9 [.ref h_s, .ref h_images, .int kept, .ref h_tape, .int typed, .ref h_draft, .int atv, .ref h_items, .ref h_moved, .ref h_sizes, .ref h_lanes, .ref h_less, .ref h_aside, .ref h_order], ai G h_s 161 sv]) (w1 := []) hP hD [] [0, 1, 2, 3, 4, 5, 6] rfl rfl (by decide) (by decide) hk1 hFc hP1 hD1
          clear hPc hDc hFc hP1 hD1 hz1 hk1 hvm
          generalize H1 = H at hP hS ⊢
          have hP : va_P G.1 gCl [al G h_items 96 items, ai G h_sizes 4 sizes, ai G h_lanes 4 lanes, ai G h_less 6 less, ai G h_aside 40 aside, oc h 9 [.ref h_s, .ref h_images, .int kept, .ref h_tape, .int typed, .ref h_draft, .int atv, .ref h_items, .ref h_moved, .ref h_sizes, .ref h_lanes, .ref h_less, .ref h_aside, .ref h_order], ai G h_s 161 sv] H := hP
          have hD : va_D A [al G h_items 96 items, ai G h_sizes 4 sizes, ai G h_lanes 4 lanes, ai G h_less 6 less, ai G h_aside 40 aside, oc h 9 [.ref h_s, .ref h_images, .int kept, .ref h_tape, .int typed, .ref h_draft, .int atv, .ref h_items, .ref h_moved, .ref h_sizes, .ref h_lanes, .ref h_less, .ref h_aside, .ref h_order], ai G h_s 161 sv] := hD
          refine lv_if_ne (tgt := 47) hx hb dX9_failed_42 (by decide) (fun c_10 => ?_) (fun c_10 => ?_)
          · replace hw := hw.1 c_10
            refine lv_aload_n hx hb dX9_failed_47 rfl (lv_at hl 0 rfl) ?_
            refine lv_iload_n hx hb dX9_failed_48 rfl (lv_at hl 2 rfl) ?_
            refine lv_iload_n hx hb dX9_failed_49 rfl (lv_at hl 3 rfl) ?_
            refine lv_iload hx hb dX9_failed_50 (lv_at hl 4 rfl) ?_
            refine lv_iload hx hb dX9_failed_52 (lv_at hl 5 rfl) ?_
            have hPc := hP.sub (ws' := [oc h 9 [.ref h_s, .ref h_images, .int kept, .ref h_tape, .int typed, .ref h_draft, .int atv, .ref h_items, .ref h_moved, .ref h_sizes, .ref h_lanes, .ref h_less, .ref h_aside, .ref h_order], ai G h_sizes 4 sizes, ai G h_lanes 4 lanes]) [5, 1, 2] rfl
            have hDc := hD.sub (ws' := [oc h 9 [.ref h_s, .ref h_images, .int kept, .ref h_tape, .int typed, .ref h_draft, .int atv, .ref h_items, .ref h_moved, .ref h_sizes, .ref h_lanes, .ref h_less, .ref h_aside, .ref h_order], ai G h_sizes 4 sizes, ai G h_lanes 4 lanes]) [5, 1, 2] (by decide) rfl
            have hFc := va_free (wc := [oc h 9 [.ref h_s, .ref h_images, .int kept, .ref h_tape, .int typed, .ref h_draft, .int atv, .ref h_items, .ref h_moved, .ref h_sizes, .ref h_lanes, .ref h_less, .ref h_aside, .ref h_order], ai G h_sizes 4 sizes, ai G h_lanes 4 lanes]) hD hS hA [5, 1, 2] rfl
            refine va_calli (va_runV (As := [.int p2, .int p3, .int p4, .int p5]) (rest := []) ⟨hx, hb, hml, hown, hts⟩ (mt_X9_barred l G h h_s h_images h_tape h_draft h_items h_moved h_sizes h_lanes h_less h_aside h_order H.size kept typed atv sizes lanes p2 p3 p4 p5 _ hw) (cwV 4 hts (lw_V q1092 q1094 qs51 q65 q1095) rfl rfl rfl (by decide +kernel) ⟨Nat.le_of_ble_eq_true rfl, Nat.le_of_ble_eq_true rfl⟩) ⟨fun a U g mk q => by obtain ⟨q0, q1, qP, qK, qD⟩ := q; exact ⟨q0, q1, qP, qK.call, qD⟩, va_recv hK.1 hP (ci := 9) (q0 := 5) rfl rfl, fun U hU hW => ⟨rfl, by rw [hU], by rw [hU]; exact hPc, hK.warm hW, hDc.weaken (fun _ _ _ _ => trivial)⟩⟩ rfl rfl hl.1 rfl (lv_room (Nat.le_of_ble_eq_true rfl)) dX9_failed_54 ⟨Nat.le_of_ble_eq_true rfl, Nat.le_of_ble_eq_true rfl⟩) hS (fun q _ h => hFc q h) hFc (fun r_11 _ t H1 locs ht hvm hw hB hz1 hk1 hS => ?_)
            obtain ⟨hP1, hD1⟩ := hB
            rw [ht] at hP1
            obtain ⟨hP, hD⟩ := va_join (wr := [al G h_items 96 items, ai G h_less 6 less, ai G h_aside 40 aside, ai G h_s 161 sv]) (w1 := [oc h 9 [.ref h_s, .ref h_images, .int kept, .ref h_tape, .int typed, .ref h_draft, .int atv, .ref h_items, .ref h_moved, .ref h_sizes, .ref h_lanes, .ref h_less, .ref h_aside, .ref h_order], ai G h_sizes 4 sizes, ai G h_lanes 4 lanes]) hP hD [5, 1, 2] [0, 3, 4, 6] rfl rfl (by decide) (by decide) hk1 hFc hP1 hD1
            clear hPc hDc hFc hP1 hD1 hz1 hk1 hvm
            generalize H1 = H at hP hS ⊢
            have hP : va_P G.1 gCl [al G h_items 96 items, ai G h_less 6 less, ai G h_aside 40 aside, ai G h_s 161 sv, oc h 9 [.ref h_s, .ref h_images, .int kept, .ref h_tape, .int typed, .ref h_draft, .int atv, .ref h_items, .ref h_moved, .ref h_sizes, .ref h_lanes, .ref h_less, .ref h_aside, .ref h_order], ai G h_sizes 4 sizes, ai G h_lanes 4 lanes] H := hP
            have hD : va_D A [al G h_items 96 items, ai G h_less 6 less, ai G h_aside 40 aside, ai G h_s 161 sv, oc h 9 [.ref h_s, .ref h_images, .int kept, .ref h_tape, .int typed, .ref h_draft, .int atv, .ref h_items, .ref h_moved, .ref h_sizes, .ref h_lanes, .ref h_less, .ref h_aside, .ref h_order], ai G h_sizes 4 sizes, ai G h_lanes 4 lanes] := hD
            refine lv_istore (lv' := [(7, .int r_11), (0, .ref h), (1, .int p1), (2, .int p2), (3, .int p3), (4, .int p4), (5, .int p5), (6, .int p6)]) hx hb dX9_failed_57 hl (by decide) rfl (fun ls hl => ?_)
            refine lv_iload hx hb dX9_failed_59 (lv_at hl 0 rfl) ?_
            refine lv_if_eq (tgt := 67) hx hb dX9_failed_61 (by decide) (fun c_12 => ?_) (fun c_12 => ?_)
            · replace hw := hw.1 c_12
              refine lv_aload_n hx hb dX9_failed_67 rfl (lv_at hl 1 rfl) ?_
              refine lv_iload_n hx hb dX9_failed_68 rfl (lv_at hl 2 rfl) ?_
              have hPc := hP.sub (ws' := [oc h 9 [.ref h_s, .ref h_images, .int kept, .ref h_tape, .int typed, .ref h_draft, .int atv, .ref h_items, .ref h_moved, .ref h_sizes, .ref h_lanes, .ref h_less, .ref h_aside, .ref h_order], ai G h_s 161 sv]) [4, 3] rfl
              have hDc := hD.sub (ws' := [oc h 9 [.ref h_s, .ref h_images, .int kept, .ref h_tape, .int typed, .ref h_draft, .int atv, .ref h_items, .ref h_moved, .ref h_sizes, .ref h_lanes, .ref h_less, .ref h_aside, .ref h_order], ai G h_s 161 sv]) [4, 3] (by decide) rfl
              have hFc := va_free (wc := [oc h 9 [.ref h_s, .ref h_images, .int kept, .ref h_tape, .int typed, .ref h_draft, .int atv, .ref h_items, .ref h_moved, .ref h_sizes, .ref h_lanes, .ref h_less, .ref h_aside, .ref h_order], ai G h_s 161 sv]) hD hS hA [4, 3] rfl
              refine va_calli (va_runV (As := [.int p1]) (rest := []) ⟨hx, hb, hml, hown, hts⟩ (mt_X9_seatOf l G h h_s h_images h_tape h_draft h_items h_moved h_sizes h_lanes h_less h_aside h_order H.size kept typed atv sv p1 _ hw) (cwV 1 hts (lw_V q883 q885 qs28 q65 q886) rfl rfl rfl (by decide +kernel) ⟨Nat.le_of_ble_eq_true rfl, Nat.le_of_ble_eq_true rfl⟩) ⟨fun a U g mk q => by obtain ⟨q0, q1, qP, qK, qD⟩ := q; exact ⟨q0, q1, qP, qK.call, qD⟩, va_recv hK.1 hP (ci := 9) (q0 := 4) rfl rfl, fun U hU hW => ⟨rfl, by rw [hU], by rw [hU]; exact hPc, hK.warm hW, hDc.weaken (fun _ _ _ _ => trivial)⟩⟩ rfl rfl hl.1 rfl (lv_room (Nat.le_of_ble_eq_true rfl)) dX9_failed_69 ⟨Nat.le_of_ble_eq_true rfl, Nat.le_of_ble_eq_true rfl⟩) hS (fun q _ h => hFc q h) hFc (fun r_13 _ t H1 locs ht hvm hw hB hz1 hk1 hS => ?_)
              obtain ⟨hP1, hD1⟩ := hB
              rw [ht] at hP1
              obtain ⟨hP, hD⟩ := va_join (wr := [al G h_items 96 items, ai G h_less 6 less, ai G h_aside 40 aside, ai G h_sizes 4 sizes, ai G h_lanes 4 lanes]) (w1 := [oc h 9 [.ref h_s, .ref h_images, .int kept, .ref h_tape, .int typed, .ref h_draft, .int atv, .ref h_items, .ref h_moved, .ref h_sizes, .ref h_lanes, .ref h_less, .ref h_aside, .ref h_order], ai G h_s 161 sv]) hP hD [4, 3] [0, 1, 2, 5, 6] rfl rfl (by decide) (by decide) hk1 hFc hP1 hD1
              clear hPc hDc hFc hP1 hD1 hz1 hk1 hvm
              generalize H1 = H at hP hS ⊢
              have hP : va_P G.1 gCl [al G h_items 96 items, ai G h_less 6 less, ai G h_aside 40 aside, ai G h_sizes 4 sizes, ai G h_lanes 4 lanes, oc h 9 [.ref h_s, .ref h_images, .int kept, .ref h_tape, .int typed, .ref h_draft, .int atv, .ref h_items, .ref h_moved, .ref h_sizes, .ref h_lanes, .ref h_less, .ref h_aside, .ref h_order], ai G h_s 161 sv] H := hP
              have hD : va_D A [al G h_items 96 items, ai G h_less 6 less, ai G h_aside 40 aside, ai G h_sizes 4 sizes, ai G h_lanes 4 lanes, oc h 9 [.ref h_s, .ref h_images, .int kept, .ref h_tape, .int typed, .ref h_draft, .int atv, .ref h_items, .ref h_moved, .ref h_sizes, .ref h_lanes, .ref h_less, .ref h_aside, .ref h_order], ai G h_s 161 sv] := hD
              refine lv_bipush (v := (-4 : Int32)) hx hb dX9_failed_72 (by decide) ?_
              refine lv_icmp_ne (tgt := 80) hx hb dX9_failed_74 (by decide) (fun c_14 => ?_) (fun c_14 => ?_)
              · replace hw := hw.1 c_14
                refine lv_aload_n hx hb dX9_failed_80 rfl (lv_at hl 1 rfl) ?_
                have hPc := hP.sub (ws' := [oc h 9 [.ref h_s, .ref h_images, .int kept, .ref h_tape, .int typed, .ref h_draft, .int atv, .ref h_items, .ref h_moved, .ref h_sizes, .ref h_lanes, .ref h_less, .ref h_aside, .ref h_order], ai G h_s 161 sv, ai G h_aside 40 aside]) [5, 6, 2] rfl
                have hDc := hD.sub (ws' := [oc h 9 [.ref h_s, .ref h_images, .int kept, .ref h_tape, .int typed, .ref h_draft, .int atv, .ref h_items, .ref h_moved, .ref h_sizes, .ref h_lanes, .ref h_less, .ref h_aside, .ref h_order], ai G h_s 161 sv, ai G h_aside 40 aside]) [5, 6, 2] (by decide) rfl
                have hFc := va_free (wc := [oc h 9 [.ref h_s, .ref h_images, .int kept, .ref h_tape, .int typed, .ref h_draft, .int atv, .ref h_items, .ref h_moved, .ref h_sizes, .ref h_lanes, .ref h_less, .ref h_aside, .ref h_order], ai G h_s 161 sv, ai G h_aside 40 aside]) hD hS hA [5, 6, 2] rfl
                refine va_callv (va_runV (As := []) (rest := []) ⟨hx, hb, hml, hown, hts⟩ (mt_X9_holds l G h h_s h_images h_tape h_draft h_items h_moved h_sizes h_lanes h_less h_aside h_order H.size kept typed atv sv aside  _ hw) (cwV 0 hts (lw_V q1010 q1012 qs45 q65 q1013) rfl rfl rfl (by decide +kernel) ⟨Nat.le_of_ble_eq_true rfl, Nat.le_of_ble_eq_true rfl⟩) ⟨fun a U g mk q => by obtain ⟨q0, q1, qP, qK, qD⟩ := q; exact ⟨q0, q1, qP, qK.call, qD⟩, va_recv hK.1 hP (ci := 9) (q0 := 5) rfl rfl, fun U hU hW => ⟨rfl, by rw [hU], by rw [hU]; exact hPc, hK.warm hW, hDc.weaken (fun _ _ _ _ => trivial)⟩⟩ rfl rfl hl.1 rfl (lv_room (Nat.le_of_ble_eq_true rfl)) dX9_failed_81 ⟨Nat.le_of_ble_eq_true rfl, Nat.le_of_ble_eq_true rfl⟩) hS (fun q _ h => hFc q h) hFc (fun u_15 t H1 locs ht hvm hw hB hz1 hk1 hS => ?_)
                obtain ⟨hP1, hD1⟩ := hB
                rw [ht] at hP1
                obtain ⟨hP, hD⟩ := va_join (wr := [al G h_items 96 items, ai G h_less 6 less, ai G h_sizes 4 sizes, ai G h_lanes 4 lanes]) (w1 := [oc h 9 [.ref h_s, .ref h_images, .int kept, .ref h_tape, .int typed, .ref h_draft, .int atv, .ref h_items, .ref h_moved, .ref h_sizes, .ref h_lanes, .ref h_less, .ref h_aside, .ref h_order], ai G h_s 161 sv, ai G h_aside 40 u_15]) hP hD [5, 6, 2] [0, 1, 3, 4] rfl rfl (by decide) (by decide) hk1 hFc hP1 hD1
                clear hPc hDc hFc hP1 hD1 hz1 hk1 hvm
                generalize H1 = H at hP hS ⊢
                have hP : va_P G.1 gCl [al G h_items 96 items, ai G h_less 6 less, ai G h_sizes 4 sizes, ai G h_lanes 4 lanes, oc h 9 [.ref h_s, .ref h_images, .int kept, .ref h_tape, .int typed, .ref h_draft, .int atv, .ref h_items, .ref h_moved, .ref h_sizes, .ref h_lanes, .ref h_less, .ref h_aside, .ref h_order], ai G h_s 161 sv, ai G h_aside 40 u_15] H := hP
                have hD : va_D A [al G h_items 96 items, ai G h_less 6 less, ai G h_sizes 4 sizes, ai G h_lanes 4 lanes, oc h 9 [.ref h_s, .ref h_images, .int kept, .ref h_tape, .int typed, .ref h_draft, .int atv, .ref h_items, .ref h_moved, .ref h_sizes, .ref h_lanes, .ref h_less, .ref h_aside, .ref h_order], ai G h_s 161 sv, ai G h_aside 40 u_15] := hD
                refine lv_bipush (v := (24 : Int32)) hx hb dX9_failed_84 (by decide) ?_
                refine lv_iload_n hx hb dX9_failed_86 rfl (lv_at hl 3 rfl) ?_
                refine lv_imul hx hb dX9_failed_87 ?_
                refine lv_iload hx hb dX9_failed_88 (lv_at hl 5 rfl) ?_
                refine lv_iadd hx hb dX9_failed_90 ?_
                refine lv_topi (fun v_16 ev_16 => ?_)
                replace hw := hw v_16 ev_16
                refine lv_istore (lv' := [(8, .int v_16), (7, .int r_11), (0, .ref h), (1, .int p1), (2, .int p2), (3, .int p3), (4, .int p4), (5, .int p5), (6, .int p6)]) hx hb dX9_failed_91 hl (by decide) rfl (fun ls hl => ?_)
                refine lv_iconst (v := (0 : Int32)) hx hb dX9_failed_93 (by decide) ?_
                refine lv_istore (lv' := [(9, .int (0 : Int32)), (8, .int v_16), (7, .int r_11), (0, .ref h), (1, .int p1), (2, .int p2), (3, .int p3), (4, .int p4), (5, .int p5), (6, .int p6)]) hx hb dX9_failed_94 hl (by decide) rfl (fun ls hl => ?_)
                refine lv_iconst (v := (0 : Int32)) hx hb dX9_failed_96 (by decide) ?_
                refine lv_istore (lv' := [(10, .int (0 : Int32)), (9, .int (0 : Int32)), (8, .int v_16), (7, .int r_11), (0, .ref h), (1, .int p1), (2, .int p2), (3, .int p3), (4, .int p4), (5, .int p5), (6, .int p6)]) hx hb dX9_failed_97 hl (by decide) rfl (fun ls hl => ?_)
                obtain ⟨j_, hw⟩ := hw
                exact wk_X9_failed_99 h h_s h_images h_tape h_draft h_items h_moved h_sizes h_lanes h_less h_aside h_order kept typed atv items sizes lanes p1 p2 p3 p4 p5 p6  Q  C  j_ sv less u_15 v_16 (0 : Int32) (0 : Int32) H locs (hP.sub [4, 5, 0, 2, 3, 1, 6] rfl) (hD.sub [4, 5, 0, 2, 3, 1, 6] (by decide) rfl) hS ls (lv_sub hl [4, 5, 9, 10, 2, 1, 0] rfl) hw
              · replace hw := hw.2 c_14
                refine lv_bipush (v := (-2 : Int32)) hx hb dX9_failed_77 (by decide) ?_
                have hP9 := hP.sub (ws' := [oc h 9 [.ref h_s, .ref h_images, .int kept, .ref h_tape, .int typed, .ref h_draft, .int atv, .ref h_items, .ref h_moved, .ref h_sizes, .ref h_lanes, .ref h_less, .ref h_aside, .ref h_order], ai G h_s 161 sv, al G h_items 96 items, ai G h_sizes 4 sizes, ai G h_lanes 4 lanes, ai G h_less 6 less, ai G h_aside 40 aside]) [5, 6, 0, 3, 4, 1, 2] rfl
                have hD9 := hD.sub (ws' := [oc h 9 [.ref h_s, .ref h_images, .int kept, .ref h_tape, .int typed, .ref h_draft, .int atv, .ref h_items, .ref h_moved, .ref h_sizes, .ref h_lanes, .ref h_less, .ref h_aside, .ref h_order], ai G h_s 161 sv, al G h_items 96 items, ai G h_sizes 4 sizes, ai G h_lanes 4 lanes, ai G h_less 6 less, ai G h_aside 40 aside]) [5, 6, 0, 3, 4, 1, 2] (by decide) rfl
                exact W.iret (v := (-2 : Int32)) hx hb hr (fun t ht hW => ⟨⟨(-2 : Int32), (sv, less, aside), rfl, hw, by rw [ht]; exact hP9, hD9⟩, hS.F ht⟩) hS.2.2 dX9_failed_79
            · replace hw := hw.2 c_12
              refine lv_iload hx hb dX9_failed_64 (lv_at hl 0 rfl) ?_
              have hP9 := hP.sub (ws' := [oc h 9 [.ref h_s, .ref h_images, .int kept, .ref h_tape, .int typed, .ref h_draft, .int atv, .ref h_items, .ref h_moved, .ref h_sizes, .ref h_lanes, .ref h_less, .ref h_aside, .ref h_order], ai G h_s 161 sv, al G h_items 96 items, ai G h_sizes 4 sizes, ai G h_lanes 4 lanes, ai G h_less 6 less, ai G h_aside 40 aside]) [4, 3, 0, 5, 6, 1, 2] rfl
              have hD9 := hD.sub (ws' := [oc h 9 [.ref h_s, .ref h_images, .int kept, .ref h_tape, .int typed, .ref h_draft, .int atv, .ref h_items, .ref h_moved, .ref h_sizes, .ref h_lanes, .ref h_less, .ref h_aside, .ref h_order], ai G h_s 161 sv, al G h_items 96 items, ai G h_sizes 4 sizes, ai G h_lanes 4 lanes, ai G h_less 6 less, ai G h_aside 40 aside]) [4, 3, 0, 5, 6, 1, 2] (by decide) rfl
              exact W.iret (v := r_11) hx hb hr (fun t ht hW => ⟨⟨r_11, (sv, less, aside), rfl, hw, by rw [ht]; exact hP9, hD9⟩, hS.F ht⟩) hS.2.2 dX9_failed_66
          · replace hw := hw.2 c_10
            refine lv_iconst (v := (-1 : Int32)) hx hb dX9_failed_45 (by decide) ?_
            have hP9 := hP.sub (ws' := [oc h 9 [.ref h_s, .ref h_images, .int kept, .ref h_tape, .int typed, .ref h_draft, .int atv, .ref h_items, .ref h_moved, .ref h_sizes, .ref h_lanes, .ref h_less, .ref h_aside, .ref h_order], ai G h_s 161 sv, al G h_items 96 items, ai G h_sizes 4 sizes, ai G h_lanes 4 lanes, ai G h_less 6 less, ai G h_aside 40 aside]) [5, 6, 0, 1, 2, 3, 4] rfl
            have hD9 := hD.sub (ws' := [oc h 9 [.ref h_s, .ref h_images, .int kept, .ref h_tape, .int typed, .ref h_draft, .int atv, .ref h_items, .ref h_moved, .ref h_sizes, .ref h_lanes, .ref h_less, .ref h_aside, .ref h_order], ai G h_s 161 sv, al G h_items 96 items, ai G h_sizes 4 sizes, ai G h_lanes 4 lanes, ai G h_less 6 less, ai G h_aside 40 aside]) [5, 6, 0, 1, 2, 3, 4] (by decide) rfl
            exact W.iret (v := (-1 : Int32)) hx hb hr (fun t ht hW => ⟨⟨(-1 : Int32), (sv, less, aside), rfl, hw, by rw [ht]; exact hP9, hD9⟩, hS.F ht⟩) hS.2.2 dX9_failed_46
/-! BattleBenchModel.film(IIIII)I -/
def wp_X9_film_64 (sizes : Nat → Int32) (lanes : Nat → Int32) (p1 : Int32) (p2 : Int32) (p3 : Int32) (p4 : Int32) (p5 : Int32) (Q : Int32 → ((Nat → Int32) × (Nat → Int64) × (Nat → Int32) × (Nat → Int32)) → Prop)  : Nat → (Nat → Int32) → (Nat → Int64) → (Nat → Int32) → (Nat → Int32) → Int32 → Prop
  | 0, _, _, _, _, _ => False
  | n + 1, sv, items, less, aside, x7 =>
    (((p2 ≤ x7) → wp_X9_lets sv aside  (fun u_2 => Q p2 (u_2, items, less, aside))) ∧ (¬ (p2 ≤ x7) → wp_X9_passes sv less  (fun u_3 => (vp_in ((4 : Int32) + p1) 161 ∧ (∀ v_5 : Int64, v_5 = (Int32.toInt64 (u_3.1 (((4 : Int32) + p1)).toNatClampNeg)) → (vp_in ((((24 : Int32) * p3) + p5) + x7) 96 ∧ ∀ f_7 : Nat → Int64, f_7 = vp_updL items (((((24 : Int32) * p3) + p5) + x7)).toNatClampNeg v_5 → wp_X9_film_64 sizes lanes p1 p2 p3 p4 p5 Q  n u_3.1 f_7 u_3.2 aside (x7 + (1 : Int32))))))))
set_option maxHeartbeats 4000000 in
theorem wk_X9_film_64 {p : Program} {l : Launch} {e : Env} {s : State} {m : MethodId} {below : List Frame} {meth : Method} {c : Code} {args : Array Value} {G : GT} {A : Nat → Prop} (h h_s h_images h_tape h_draft h_items h_moved h_sizes h_lanes h_less h_aside h_order : Nat) (kept : Int32) (typed : Int32) (atv : Int32) (sizes : Nat → Int32) (lanes : Nat → Int32) (p1 : Int32) (p2 : Int32) (p3 : Int32) (p4 : Int32) (p5 : Int32) (Q : Int32 → ((Nat → Int32) × (Nat → Int64) × (Nat → Int32) × (Nat → Int32)) → Prop)  (C : Cx p s m meth c cX9_film 8 (some .int) RX9 args G A)  :
    ∀ (n : Nat), ∀  (sv : Nat → Int32) (items : Nat → Int64) (less : Nat → Int32) (aside : Nat → Int32) (x7 : Int32) (H : Heap) (locs : List Loc), va_P G.1 gCl [oc h 9 [.ref h_s, .ref h_images, .int kept, .ref h_tape, .int typed, .ref h_draft, .int atv, .ref h_items, .ref h_moved, .ref h_sizes, .ref h_lanes, .ref h_less, .ref h_aside, .ref h_order], ai G h_s 161 sv, al G h_items 96 items, ai G h_sizes 4 sizes, ai G h_lanes 4 lanes, ai G h_less 6 less, ai G h_aside 40 aside] H → va_D A [oc h 9 [.ref h_s, .ref h_images, .int kept, .ref h_tape, .int typed, .ref h_draft, .int atv, .ref h_items, .ref h_moved, .ref h_sizes, .ref h_lanes, .ref h_less, .ref h_aside, .ref h_order], ai G h_s 161 sv, al G h_items 96 items, ai G h_sizes 4 sizes, ai G h_lanes 4 lanes, ai G h_less 6 less, ai G h_aside 40 aside] → va_S A s.heap H locs → ∀ (ls : Array Slot), lv_has ls 8 [(0, .ref h), (1, .int p1), (2, .int p2), (3, .int p3), (5, .int p5), (7, .int x7)] → wp_X9_film_64 sizes lanes p1 p2 p3 p4 p5 Q  n sv items less aside x7 → W p l e ({ frames := 5, cells := 0, slots := 0, locals := 113 } : Room) s m args below meth c H locs 0 0 (MQ below (va_Qi (fun (r : Int32) (u : (Nat → Int32) × (Nat → Int64) × (Nat → Int32) × (Nat → Int32)) => Q r u) (fun u t => va_P G.1 gCl [oc h 9 [.ref h_s, .ref h_images, .int kept, .ref h_tape, .int typed, .ref h_draft, .int atv, .ref h_items, .ref h_moved, .ref h_sizes, .ref h_lanes, .ref h_less, .ref h_aside, .ref h_order], ai G h_s 161 u.1, al G h_items 96 u.2.1, ai G h_sizes 4 sizes, ai G h_lanes 4 lanes, ai G h_less 6 u.2.2.1, ai G h_aside 40 u.2.2.2] t.heap ∧ va_D A [oc h 9 [.ref h_s, .ref h_images, .int kept, .ref h_tape, .int typed, .ref h_draft, .int atv, .ref h_items, .ref h_moved, .ref h_sizes, .ref h_lanes, .ref h_less, .ref h_aside, .ref h_order], ai G h_s 161 u.1, al G h_items 96 u.2.1, ai G h_sizes 4 sizes, ai G h_lanes 4 lanes, ai G h_less 6 u.2.2.1, ai G h_aside 40 u.2.2.2]) A) args s 0 0 A) (F0 m 64 ls []) := by
  have C9 := C
  obtain ⟨hx, hb, hr, hlocks, hml, hown, hts, hK, hA⟩ := C9
  intro n
  induction n with
  | zero => intro sv items less aside x7 H locs hP hD hS ls hl hw; exact False.elim hw
  | succ n ih =>
    intro sv items less aside x7 H locs hP hD hS ls hl hw
    unfold wp_X9_film_64 at hw
    refine lv_iload hx hb dX9_film_64 (lv_at hl 5 rfl) ?_
    refine lv_iload_n hx hb dX9_film_66 rfl (lv_at hl 2 rfl) ?_
    refine lv_icmp_ge (tgt := 104) hx hb dX9_film_67 (by decide) (fun c_1 => ?_) (fun c_1 => ?_)
    · replace hw := hw.1 c_1
      refine lv_aload_n hx hb dX9_film_104 rfl (lv_at hl 0 rfl) ?_
      have hPc := hP.sub (ws' := [oc h 9 [.ref h_s, .ref h_images, .int kept, .ref h_tape, .int typed, .ref h_draft, .int atv, .ref h_items, .ref h_moved, .ref h_sizes, .ref h_lanes, .ref h_less, .ref h_aside, .ref h_order], ai G h_s 161 sv, ai G h_aside 40 aside]) [0, 1, 6] rfl
      have hDc := hD.sub (ws' := [oc h 9 [.ref h_s, .ref h_images, .int kept, .ref h_tape, .int typed, .ref h_draft, .int atv, .ref h_items, .ref h_moved, .ref h_sizes, .ref h_lanes, .ref h_less, .ref h_aside, .ref h_order], ai G h_s 161 sv, ai G h_aside 40 aside]) [0, 1, 6] (by decide) rfl
      have hFc := va_free (wc := [oc h 9 [.ref h_s, .ref h_images, .int kept, .ref h_tape, .int typed, .ref h_draft, .int atv, .ref h_items, .ref h_moved, .ref h_sizes, .ref h_lanes, .ref h_less, .ref h_aside, .ref h_order], ai G h_s 161 sv, ai G h_aside 40 aside]) hD hS hA [0, 1, 6] rfl
      refine va_callv (va_runV (As := []) (rest := []) ⟨hx, hb, hml, hown, hts⟩ (mt_X9_lets l G h h_s h_images h_tape h_draft h_items h_moved h_sizes h_lanes h_less h_aside h_order H.size kept typed atv sv aside  _ hw) (cwV 0 hts (lw_V q1014 q1016 qs46 q65 q1017) rfl rfl rfl (by decide +kernel) ⟨Nat.le_of_ble_eq_true rfl, Nat.le_of_ble_eq_true rfl⟩) ⟨fun a U g mk q => by obtain ⟨q0, q1, qP, qK, qD⟩ := q; exact ⟨q0, q1, qP, qK.call, qD⟩, va_recv hK.1 hP (ci := 9) (q0 := 0) rfl rfl, fun U hU hW => ⟨rfl, by rw [hU], by rw [hU]; exact hPc, hK.warm hW, hDc.weaken (fun _ _ _ _ => trivial)⟩⟩ rfl rfl hl.1 rfl (lv_room (Nat.le_of_ble_eq_true rfl)) dX9_film_105 ⟨Nat.le_of_ble_eq_true rfl, Nat.le_of_ble_eq_true rfl⟩) hS (fun q _ h => hFc q h) hFc (fun u_2 t H1 locs ht hvm hw hB hz1 hk1 hS => ?_)
      obtain ⟨hP1, hD1⟩ := hB
      rw [ht] at hP1
      obtain ⟨hP, hD⟩ := va_join (wr := [al G h_items 96 items, ai G h_sizes 4 sizes, ai G h_lanes 4 lanes, ai G h_less 6 less]) (w1 := [oc h 9 [.ref h_s, .ref h_images, .int kept, .ref h_tape, .int typed, .ref h_draft, .int atv, .ref h_items, .ref h_moved, .ref h_sizes, .ref h_lanes, .ref h_less, .ref h_aside, .ref h_order], ai G h_s 161 u_2, ai G h_aside 40 aside]) hP hD [0, 1, 6] [2, 3, 4, 5] rfl rfl (by decide) (by decide) hk1 hFc hP1 hD1
      clear hPc hDc hFc hP1 hD1 hz1 hk1 hvm
      generalize H1 = H at hP hS ⊢
      have hP : va_P G.1 gCl [al G h_items 96 items, ai G h_sizes 4 sizes, ai G h_lanes 4 lanes, ai G h_less 6 less, oc h 9 [.ref h_s, .ref h_images, .int kept, .ref h_tape, .int typed, .ref h_draft, .int atv, .ref h_items, .ref h_moved, .ref h_sizes, .ref h_lanes, .ref h_less, .ref h_aside, .ref h_order], ai G h_s 161 u_2, ai G h_aside 40 aside] H := hP
      have hD : va_D A [al G h_items 96 items, ai G h_sizes 4 sizes, ai G h_lanes 4 lanes, ai G h_less 6 less, oc h 9 [.ref h_s, .ref h_images, .int kept, .ref h_tape, .int typed, .ref h_draft, .int atv, .ref h_items, .ref h_moved, .ref h_sizes, .ref h_lanes, .ref h_less, .ref h_aside, .ref h_order], ai G h_s 161 u_2, ai G h_aside 40 aside] := hD
      refine lv_iload_n hx hb dX9_film_108 rfl (lv_at hl 2 rfl) ?_
      have hP9 := hP.sub (ws' := [oc h 9 [.ref h_s, .ref h_images, .int kept, .ref h_tape, .int typed, .ref h_draft, .int atv, .ref h_items, .ref h_moved, .ref h_sizes, .ref h_lanes, .ref h_less, .ref h_aside, .ref h_order], ai G h_s 161 u_2, al G h_items 96 items, ai G h_sizes 4 sizes, ai G h_lanes 4 lanes, ai G h_less 6 less, ai G h_aside 40 aside]) [4, 5, 0, 1, 2, 3, 6] rfl
      have hD9 := hD.sub (ws' := [oc h 9 [.ref h_s, .ref h_images, .int kept, .ref h_tape, .int typed, .ref h_draft, .int atv, .ref h_items, .ref h_moved, .ref h_sizes, .ref h_lanes, .ref h_less, .ref h_aside, .ref h_order], ai G h_s 161 u_2, al G h_items 96 items, ai G h_sizes 4 sizes, ai G h_lanes 4 lanes, ai G h_less 6 less, ai G h_aside 40 aside]) [4, 5, 0, 1, 2, 3, 6] (by decide) rfl
      exact W.iret (v := p2) hx hb hr (fun t ht hW => ⟨⟨p2, (u_2, items, less, aside), rfl, hw, by rw [ht]; exact hP9, hD9⟩, hS.F ht⟩) hS.2.2 dX9_film_109
    · replace hw := hw.2 c_1
      refine lv_aload_n hx hb dX9_film_70 rfl (lv_at hl 0 rfl) ?_
      have hPc := hP.sub (ws' := [oc h 9 [.ref h_s, .ref h_images, .int kept, .ref h_tape, .int typed, .ref h_draft, .int atv, .ref h_items, .ref h_moved, .ref h_sizes, .ref h_lanes, .ref h_less, .ref h_aside, .ref h_order], ai G h_s 161 sv, ai G h_less 6 less]) [0, 1, 5] rfl
      have hDc := hD.sub (ws' := [oc h 9 [.ref h_s, .ref h_images, .int kept, .ref h_tape, .int typed, .ref h_draft, .int atv, .ref h_items, .ref h_moved, .ref h_sizes, .ref h_lanes, .ref h_less, .ref h_aside, .ref h_order], ai G h_s 161 sv, ai G h_less 6 less]) [0, 1, 5] (by decide) rfl
      have hFc := va_free (wc := [oc h 9 [.ref h_s, .ref h_images, .int kept, .ref h_tape, .int typed, .ref h_draft, .int atv, .ref h_items, .ref h_moved, .ref h_sizes, .ref h_lanes, .ref h_less, .ref h_aside, .ref h_order], ai G h_s 161 sv, ai G h_less 6 less]) hD hS hA [0, 1, 5] rfl
      refine va_callv (va_runV (As := []) (rest := []) ⟨hx, hb, hml, hown, hts⟩ (mt_X9_passes l G h h_s h_images h_tape h_draft h_items h_moved h_sizes h_lanes h_less h_aside h_order H.size kept typed atv sv less  _ hw) (cwV 0 hts (lw_V q972 q974 qs43 q65 q975) rfl rfl rfl (by decide +kernel) ⟨Nat.le_of_ble_eq_true rfl, Nat.le_of_ble_eq_true rfl⟩) ⟨fun a U g mk q => by obtain ⟨q0, q1, qP, qK, qD⟩ := q; exact ⟨q0, q1, qP, qK.call, qD⟩, va_recv hK.1 hP (ci := 9) (q0 := 0) rfl rfl, fun U hU hW => ⟨rfl, by rw [hU], by rw [hU]; exact hPc, hK.warm hW, hDc.weaken (fun _ _ _ _ => trivial)⟩⟩ rfl rfl hl.1 rfl (lv_room (Nat.le_of_ble_eq_true rfl)) dX9_film_71 ⟨Nat.le_of_ble_eq_true rfl, Nat.le_of_ble_eq_true rfl⟩) hS (fun q _ h => hFc q h) hFc (fun u_3 t H1 locs ht hvm hw hB hz1 hk1 hS => ?_)
      obtain ⟨hP1, hD1⟩ := hB
      rw [ht] at hP1
      obtain ⟨hP, hD⟩ := va_join (wr := [al G h_items 96 items, ai G h_sizes 4 sizes, ai G h_lanes 4 lanes, ai G h_aside 40 aside]) (w1 := [oc h 9 [.ref h_s, .ref h_images, .int kept, .ref h_tape, .int typed, .ref h_draft, .int atv, .ref h_items, .ref h_moved, .ref h_sizes, .ref h_lanes, .ref h_less, .ref h_aside, .ref h_order], ai G h_s 161 u_3.1, ai G h_less 6 u_3.2]) hP hD [0, 1, 5] [2, 3, 4, 6] rfl rfl (by decide) (by decide) hk1 hFc hP1 hD1
      clear hPc hDc hFc hP1 hD1 hz1 hk1 hvm
      generalize H1 = H at hP hS ⊢
      have hP : va_P G.1 gCl [al G h_items 96 items, ai G h_sizes 4 sizes, ai G h_lanes 4 lanes, ai G h_aside 40 aside, oc h 9 [.ref h_s, .ref h_images, .int kept, .ref h_tape, .int typed, .ref h_draft, .int atv, .ref h_items, .ref h_moved, .ref h_sizes, .ref h_lanes, .ref h_less, .ref h_aside, .ref h_order], ai G h_s 161 u_3.1, ai G h_less 6 u_3.2] H := hP
      have hD : va_D A [al G h_items 96 items, ai G h_sizes 4 sizes, ai G h_lanes 4 lanes, ai G h_aside 40 aside, oc h 9 [.ref h_s, .ref h_images, .int kept, .ref h_tape, .int typed, .ref h_draft, .int atv, .ref h_items, .ref h_moved, .ref h_sizes, .ref h_lanes, .ref h_less, .ref h_aside, .ref h_order], ai G h_s 161 u_3.1, ai G h_less 6 u_3.2] := hD
      refine lv_aload_n hx hb dX9_film_74 rfl (lv_at hl 0 rfl) ?_
      refine va_get (D := G.1) (ci := 9) (v := .ref h_items) (C := RX9) (T := TX9) (N := 14) hx hb hts in_X9 hown hK.1 hP 4 rfl rfl 7 (by decide) (hts _ q824) (fun _ h9 => h9) rfl dX9_film_75 ?_
      refine lv_bipush (v := (24 : Int32)) hx hb dX9_film_78 (by decide) ?_
      refine lv_iload_n hx hb dX9_film_80 rfl (lv_at hl 3 rfl) ?_
      refine lv_imul hx hb dX9_film_81 ?_
      refine lv_iload hx hb dX9_film_82 (lv_at hl 4 rfl) ?_
      refine lv_iadd hx hb dX9_film_84 ?_
      refine lv_iload hx hb dX9_film_85 (lv_at hl 5 rfl) ?_
      refine lv_iadd hx hb dX9_film_87 ?_
      refine lv_aload_n hx hb dX9_film_88 rfl (lv_at hl 0 rfl) ?_
      refine va_get (D := G.1) (ci := 9) (v := .ref h_s) (C := RX9) (T := TX9) (N := 14) hx hb hts in_X9 hown hK.1 hP 4 rfl rfl 0 (by decide) (hts _ q817) (fun _ h9 => h9) rfl dX9_film_89 ?_
      refine lv_iconst (v := (4 : Int32)) hx hb dX9_film_92 (by decide) ?_
      refine lv_iload_n hx hb dX9_film_93 rfl (lv_at hl 1 rfl) ?_
      refine lv_iadd hx hb dX9_film_94 ?_
      obtain ⟨i_4, hw⟩ := hw
      refine z_iald hx hb hK.1 hP 5 0 rfl rfl i_4 dX9_film_95 (k := (((4 : Int32) + p1)).toNatClampNeg) rfl ?_
      refine lv_i2l hx hb dX9_film_96 rfl ?_
      refine lv_topl (fun v_5 ev_5 => ?_)
      replace hw := hw v_5 ev_5
      obtain ⟨i_6, hw⟩ := hw
      refine z_last hx hb hK.1 hP hD hS 0 1 rfl rfl i_6 dX9_film_97 (k := (((((24 : Int32) * p3) + p5) + x7)).toNatClampNeg) rfl (fun f_7 ef_7 H locs hP hD hS => ?_)
      replace hw := hw f_7 ef_7
      have hP : va_P G.1 gCl [al G h_items 96 f_7, ai G h_sizes 4 sizes, ai G h_lanes 4 lanes, ai G h_aside 40 aside, oc h 9 [.ref h_s, .ref h_images, .int kept, .ref h_tape, .int typed, .ref h_draft, .int atv, .ref h_items, .ref h_moved, .ref h_sizes, .ref h_lanes, .ref h_less, .ref h_aside, .ref h_order], ai G h_s 161 u_3.1, ai G h_less 6 u_3.2] H := hP
      have hD : va_D A [al G h_items 96 f_7, ai G h_sizes 4 sizes, ai G h_lanes 4 lanes, ai G h_aside 40 aside, oc h 9 [.ref h_s, .ref h_images, .int kept, .ref h_tape, .int typed, .ref h_draft, .int atv, .ref h_items, .ref h_moved, .ref h_sizes, .ref h_lanes, .ref h_less, .ref h_aside, .ref h_order], ai G h_s 161 u_3.1, ai G h_less 6 u_3.2] := hD
      refine lv_iinc (v := (x7 + (1 : Int32))) (lv' := [(7, .int (x7 + (1 : Int32))), (0, .ref h), (1, .int p1), (2, .int p2), (3, .int p3), (5, .int p5)]) hx hb dX9_film_98 hl (k := 5) rfl rfl (by decide) rfl (fun ls hl => ?_)
      refine lv_goto (tgt := 64) hx hb dX9_film_101 (by decide) ?_
      exact ih u_3.1 f_7 u_3.2 aside (x7 + (1 : Int32)) H locs (hP.sub [4, 5, 0, 1, 2, 6, 3] rfl) (hD.sub [4, 5, 0, 1, 2, 6, 3] (by decide) rfl) hS ls (lv_sub hl [1, 2, 3, 4, 5, 0] rfl) hw
def wp_X9_film (sv : Nat → Int32) (items : Nat → Int64) (sizes : Nat → Int32) (lanes : Nat → Int32) (less : Nat → Int32) (aside : Nat → Int32) (p1 : Int32) (p2 : Int32) (p3 : Int32) (p4 : Int32) (p5 : Int32) (Q : Int32 → ((Nat → Int32) × (Nat → Int64) × (Nat → Int32) × (Nat → Int32)) → Prop) : Prop :=
  wp_X9_isMan sv p1 (fun r_1 => (((r_1 = 0) → Q (-1 : Int32) (sv, items, less, aside)) ∧ (¬ (r_1 = 0) → wp_X9_in  p2 (1 : Int32) (24 : Int32) (fun r_3 => (((r_3 = 0) → Q (-1 : Int32) (sv, items, less, aside)) ∧ (¬ (r_3 = 0) → wp_X9_isSheet  p3 (fun r_5 => (((r_5 = 0) → Q (-1 : Int32) (sv, items, less, aside)) ∧ (¬ (r_5 = 0) → wp_X9_in  p4 (0 : Int32) (3 : Int32) (fun r_7 => ((¬ (r_7 = 0) → wp_X9_barred sizes lanes p3 p4 p5 p2 (fun r_9 => (((r_9 = 0) → wp_X9_holds sv aside  (fun u_11 => (∃ j_ : Nat, wp_X9_film_64 sizes lanes p1 p2 p3 p4 p5 Q  j_ sv items less u_11 (0 : Int32)))) ∧ (¬ (r_9 = 0) → Q r_9 (sv, items, less, aside))))) ∧ ((r_7 = 0) → Q (-1 : Int32) (sv, items, less, aside)))))))))))))
set_option maxHeartbeats 4000000 in
theorem mt_X9_film (l : Launch) (G : GT) (h h_s h_images h_tape h_draft h_items h_moved h_sizes h_lanes h_less h_aside h_order : Nat) (sz : Nat) (kept : Int32) (typed : Int32) (atv : Int32) (sv : Nat → Int32) (items : Nat → Int64) (sizes : Nat → Int32) (lanes : Nat → Int32) (less : Nat → Int32) (aside : Nat → Int32) (p1 : Int32) (p2 : Int32) (p3 : Int32) (p4 : Int32) (p5 : Int32) (Q : Int32 → ((Nat → Int32) × (Nat → Int64) × (Nat → Int32) × (Nat → Int32)) → Prop) (hw : wp_X9_film sv items sizes lanes less aside p1 p2 p3 p4 p5 Q) : Met l yX9_film (ws_ yX9_film cX9_film 8 (some .int)) ({ frames := 5, cells := 0, slots := 0, locals := 113 } : Room) (va_Pc [.ref h, .int p1, .int p2, .int p3, .int p4, .int p5] (fun U => U.heap.size = sz ∧ va_P G.1 gCl [oc h 9 [.ref h_s, .ref h_images, .int kept, .ref h_tape, .int typed, .ref h_draft, .int atv, .ref h_items, .ref h_moved, .ref h_sizes, .ref h_lanes, .ref h_less, .ref h_aside, .ref h_order], ai G h_s 161 sv, al G h_items 96 items, ai G h_sizes 4 sizes, ai G h_lanes 4 lanes, ai G h_less 6 less, ai G h_aside 40 aside] U.heap ∧ gK G U ∧ va_D (fun _ => True) [oc h 9 [.ref h_s, .ref h_images, .int kept, .ref h_tape, .int typed, .ref h_draft, .int atv, .ref h_items, .ref h_moved, .ref h_sizes, .ref h_lanes, .ref h_less, .ref h_aside, .ref h_order], ai G h_s 161 sv, al G h_items 96 items, ai G h_sizes 4 sizes, ai G h_lanes 4 lanes, ai G h_less 6 less, ai G h_aside 40 aside])) ((fun A => (va_Qi (fun (r : Int32) (u : (Nat → Int32) × (Nat → Int64) × (Nat → Int32) × (Nat → Int32)) => Q r u) (fun u t => va_P G.1 gCl [oc h 9 [.ref h_s, .ref h_images, .int kept, .ref h_tape, .int typed, .ref h_draft, .int atv, .ref h_items, .ref h_moved, .ref h_sizes, .ref h_lanes, .ref h_less, .ref h_aside, .ref h_order], ai G h_s 161 u.1, al G h_items 96 u.2.1, ai G h_sizes 4 sizes, ai G h_lanes 4 lanes, ai G h_less 6 u.2.2.1, ai G h_aside 40 u.2.2.2] t.heap ∧ va_D A [oc h 9 [.ref h_s, .ref h_images, .int kept, .ref h_tape, .int typed, .ref h_draft, .int atv, .ref h_items, .ref h_moved, .ref h_sizes, .ref h_lanes, .ref h_less, .ref h_aside, .ref h_order], ai G h_s 161 u.1, al G h_items 96 u.2.1, ai G h_sizes 4 sizes, ai G h_lanes 4 lanes, ai G h_less 6 u.2.2.1, ai G h_aside 40 u.2.2.2]) A)) (va_A [oc h 9 [.ref h_s, .ref h_images, .int kept, .ref h_tape, .int typed, .ref h_draft, .int atv, .ref h_items, .ref h_moved, .ref h_sizes, .ref h_lanes, .ref h_less, .ref h_aside, .ref h_order], ai G h_s 161 sv, al G h_items 96 items, ai G h_sizes 4 sizes, ai G h_lanes 4 lanes, ai G h_less 6 less, ai G h_aside 40 aside] sz)) 0 0 (va_A [oc h 9 [.ref h_s, .ref h_images, .int kept, .ref h_tape, .int typed, .ref h_draft, .int atv, .ref h_items, .ref h_moved, .ref h_sizes, .ref h_lanes, .ref h_less, .ref h_aside, .ref h_order], ai G h_s 161 sv, al G h_items 96 items, ai G h_sizes 4 sizes, ai G h_lanes 4 lanes, ai G h_less 6 less, ai G h_aside 40 aside] sz) := by
  refine Met.ofW (cc := cX9_film) (maxL := 8) (ret := (some .int)) (by decide) rfl ?_
  intro p e s m args below meth c s₁ B hml hv
  obtain ⟨rfl, hsz, hP, hK, hD0⟩ := hv
  have hx := B.exec
  have hb := B.bytes
  have hr := B.returns
  have hts := atoms_spec (ws := (ws_ yX9_film cX9_film 8 (some .int))) B.pre
  have hts : ∀ w ∈ lw_all, w.before _ s = true := fun w h => hts w (List.mem_cons_of_mem _ h)
  have hown : s.vm.findClass RX9 = some m.cls := findClass_of_methodNamed B.named
  have hlocks := B.notSynchronized
  subst hsz
  have hD := hD0.self (sz := s.heap.size)
  generalize hAe : va_A [oc h 9 [.ref h_s, .ref h_images, .int kept, .ref h_tape, .int typed, .ref h_draft, .int atv, .ref h_items, .ref h_moved, .ref h_sizes, .ref h_lanes, .ref h_less, .ref h_aside, .ref h_order], ai G h_s 161 sv, al G h_items 96 items, ai G h_sizes 4 sizes, ai G h_lanes 4 lanes, ai G h_less 6 less, ai G h_aside 40 aside] s.heap.size = A at hD ⊢
  have hA : ∀ q : Nat, s.heap.size ≤ q → A q := fun q h => by rw [← hAe]; exact Or.inr h
  have hS : va_S A s.heap s.heap [] := va_S.rf
  have C : Cx p s m meth c cX9_film 8 (some .int) RX9 ([.ref h, .int p1, .int p2, .int p3, .int p4, .int p5] : List Value).toArray G A := ⟨hx, hb, hr, hlocks, hml, hown, hts, hK, hA⟩
  have hl := lv_entry ([.ref h, .int p1, .int p2, .int p3, .int p4, .int p5]) (n := 8) (Nat.le_of_ble_eq_true rfl)
  rw [lg_entry_eq]
  generalize (lg_sl ([.ref h, .int p1, .int p2, .int p3, .int p4, .int p5]) ++ List.replicate (8 - (lg_sl ([.ref h, .int p1, .int p2, .int p3, .int p4, .int p5])).length) Slot.unset).toArray = ls at hl ⊢
  have hl : lv_has ls 8 [(0, .ref h), (1, .int p1), (2, .int p2), (3, .int p3), (4, .int p4), (5, .int p5)] := hl
  unfold wp_X9_film at hw
  refine lv_aload_n hx hb dX9_film_0 rfl (lv_at hl 0 rfl) ?_
  refine lv_iload_n hx hb dX9_film_1 rfl (lv_at hl 1 rfl) ?_
  have hPc := hP.sub (ws' := [oc h 9 [.ref h_s, .ref h_images, .int kept, .ref h_tape, .int typed, .ref h_draft, .int atv, .ref h_items, .ref h_moved, .ref h_sizes, .ref h_lanes, .ref h_less, .ref h_aside, .ref h_order], ai G h_s 161 sv]) [0, 1] rfl
  have hDc := hD.sub (ws' := [oc h 9 [.ref h_s, .ref h_images, .int kept, .ref h_tape, .int typed, .ref h_draft, .int atv, .ref h_items, .ref h_moved, .ref h_sizes, .ref h_lanes, .ref h_less, .ref h_aside, .ref h_order], ai G h_s 161 sv]) [0, 1] (by decide) rfl
  have hFc := va_free (wc := [oc h 9 [.ref h_s, .ref h_images, .int kept, .ref h_tape, .int typed, .ref h_draft, .int atv, .ref h_items, .ref h_moved, .ref h_sizes, .ref h_lanes, .ref h_less, .ref h_aside, .ref h_order], ai G h_s 161 sv]) hD hS hA [0, 1] rfl
  refine va_calli (va_runV (As := [.int p1]) (rest := []) ⟨hx, hb, hml, hown, hts⟩ (mt_X9_isMan l G h h_s h_images h_tape h_draft h_items h_moved h_sizes h_lanes h_less h_aside h_order s.heap.size kept typed atv sv p1 _ hw) (cwV 1 hts (lw_V q875 q877 qs27 q65 q878) rfl rfl rfl (by decide +kernel) ⟨Nat.le_of_ble_eq_true rfl, Nat.le_of_ble_eq_true rfl⟩) ⟨fun a U g mk q => by obtain ⟨q0, q1, qP, qK, qD⟩ := q; exact ⟨q0, q1, qP, qK.call, qD⟩, va_recv hK.1 hP (ci := 9) (q0 := 0) rfl rfl, fun U hU hW => ⟨rfl, by rw [hU], by rw [hU]; exact hPc, hK.warm hW, hDc.weaken (fun _ _ _ _ => trivial)⟩⟩ rfl rfl hl.1 rfl (lv_room (Nat.le_of_ble_eq_true rfl)) dX9_film_2 ⟨Nat.le_of_ble_eq_true rfl, Nat.le_of_ble_eq_true rfl⟩) hS (fun q _ h => hFc q h) hFc (fun r_1 _ t H1 locs ht hvm hw hB hz1 hk1 hS => ?_)
  obtain ⟨hP1, hD1⟩ := hB
  rw [ht] at hP1
  obtain ⟨hP, hD⟩ := va_join (wr := [al G h_items 96 items, ai G h_sizes 4 sizes, ai G h_lanes 4 lanes, ai G h_less 6 less, ai G h_aside 40 aside]) (w1 := [oc h 9 [.ref h_s, .ref h_images, .int kept, .ref h_tape, .int typed, .ref h_draft, .int atv, .ref h_items, .ref h_moved, .ref h_sizes, .ref h_lanes, .ref h_less, .ref h_aside, .ref h_order], ai G h_s 161 sv]) hP hD [0, 1] [2, 3, 4, 5, 6] rfl rfl (by decide) (by decide) hk1 hFc hP1 hD1
  clear hPc hDc hFc hP1 hD1 hz1 hk1 hvm
  generalize H1 = H at hP hS ⊢
  have hP : va_P G.1 gCl [al G h_items 96 items, ai G h_sizes 4 sizes, ai G h_lanes 4 lanes, ai G h_less 6 less, ai G h_aside 40 aside, oc h 9 [.ref h_s, .ref h_images, .int kept, .ref h_tape, .int typed, .ref h_draft, .int atv, .ref h_items, .ref h_moved, .ref h_sizes, .ref h_lanes, .ref h_less, .ref h_aside, .ref h_order], ai G h_s 161 sv] H := hP
  have hD : va_D A [al G h_items 96 items, ai G h_sizes 4 sizes, ai G h_lanes 4 lanes, ai G h_less 6 less, ai G h_aside 40 aside, oc h 9 [.ref h_s, .ref h_images, .int kept, .ref h_tape, .int typed, .ref h_draft, .int atv, .ref h_items, .ref h_moved, .ref h_sizes, .ref h_lanes, .ref h_less, .ref h_aside, .ref h_order], ai G h_s 161 sv] := hD
  refine lv_if_eq (tgt := 35) hx hb dX9_film_5 (by decide) (fun c_2 => ?_) (fun c_2 => ?_)
  · replace hw := hw.1 c_2
    refine lv_iconst (v := (-1 : Int32)) hx hb dX9_film_35 (by decide) ?_
    have hP9 := hP.sub (ws' := [oc h 9 [.ref h_s, .ref h_images, .int kept, .ref h_tape, .int typed, .ref h_draft, .int atv, .ref h_items, .ref h_moved, .ref h_sizes, .ref h_lanes, .ref h_less, .ref h_aside, .ref h_order], ai G h_s 161 sv, al G h_items 96 items, ai G h_sizes 4 sizes, ai G h_lanes 4 lanes, ai G h_less 6 less, ai G h_aside 40 aside]) [5, 6, 0, 1, 2, 3, 4] rfl
    have hD9 := hD.sub (ws' := [oc h 9 [.ref h_s, .ref h_images, .int kept, .ref h_tape, .int typed, .ref h_draft, .int atv, .ref h_items, .ref h_moved, .ref h_sizes, .ref h_lanes, .ref h_less, .ref h_aside, .ref h_order], ai G h_s 161 sv, al G h_items 96 items, ai G h_sizes 4 sizes, ai G h_lanes 4 lanes, ai G h_less 6 less, ai G h_aside 40 aside]) [5, 6, 0, 1, 2, 3, 4] (by decide) rfl
    exact W.iret (v := (-1 : Int32)) hx hb hr (fun t ht hW => ⟨⟨(-1 : Int32), (sv, items, less, aside), rfl, hw, by rw [ht]; exact hP9, hD9⟩, hS.F ht⟩) hS.2.2 dX9_film_36
  · replace hw := hw.2 c_2
    refine lv_iload_n hx hb dX9_film_8 rfl (lv_at hl 2 rfl) ?_
    refine lv_iconst (v := (1 : Int32)) hx hb dX9_film_9 (by decide) ?_
    refine lv_bipush (v := (24 : Int32)) hx hb dX9_film_10 (by decide) ?_
    have hPc := hP.sub (ws' := []) [] rfl
    have hDc := hD.sub (ws' := []) [] (by decide) rfl
    have hFc := va_free (wc := []) hD hS hA [] rfl
    refine va_calli (va_runS (As := [.int p2, .int (1 : Int32), .int (24 : Int32)]) (rest := []) ⟨hx, hb, hml, hown, hts⟩ (mt_X9_in l G  H.size  p2 (1 : Int32) (24 : Int32) _ hw) (va_cwS 3 hts (lw_S q864 q865 q65 q866) rfl rfl rfl (by decide +kernel) ⟨Nat.le_of_ble_eq_true rfl, Nat.le_of_ble_eq_true rfl⟩) ⟨fun a U g mk q => by obtain ⟨q0, q1, qP, qK, qD⟩ := q; exact ⟨q0, q1, qP, qK.call, qD⟩, fun U hU hW => ⟨rfl, by rw [hU], by rw [hU]; exact hPc, hK.warm hW, hDc.weaken (fun _ _ _ _ => trivial)⟩⟩ rfl rfl hl.1 rfl (lv_room (Nat.le_of_ble_eq_true rfl)) dX9_film_12 ⟨Nat.le_of_ble_eq_true rfl, Nat.le_of_ble_eq_true rfl⟩) hS (fun q _ h => hFc q h) hFc (fun r_3 _ t H1 locs ht hvm hw hB hz1 hk1 hS => ?_)
    obtain ⟨hP1, hD1⟩ := hB
    rw [ht] at hP1
    obtain ⟨hP, hD⟩ := va_join (wr := [al G h_items 96 items, ai G h_sizes 4 sizes, ai G h_lanes 4 lanes, ai G h_less 6 less, ai G h_aside 40 aside, oc h 9 [.ref h_s, .ref h_images, .int kept, .ref h_tape, .int typed, .ref h_draft, .int atv, .ref h_items, .ref h_moved, .ref h_sizes, .ref h_lanes, .ref h_less, .ref h_aside, .ref h_order], ai G h_s 161 sv]) (w1 := []) hP hD [] [0, 1, 2, 3, 4, 5, 6] rfl rfl (by decide) (by decide) hk1 hFc hP1 hD1
    clear hPc hDc hFc hP1 hD1 hz1 hk1 hvm
    generalize H1 = H at hP hS ⊢
    have hP : va_P G.1 gCl [al G h_items 96 items, ai G h_sizes 4 sizes, ai G h_lanes 4 lanes, ai G h_less 6 less, ai G h_aside 40 aside, oc h 9 [.ref h_s, .ref h_images, .int kept, .ref h_tape, .int typed, .ref h_draft, .int atv, .ref h_items, .ref h_moved, .ref h_sizes, .ref h_lanes, .ref h_less, .ref h_aside, .ref h_order], ai G h_s 161 sv] H := hP
    have hD : va_D A [al G h_items 96 items, ai G h_sizes 4 sizes, ai G h_lanes 4 lanes, ai G h_less 6 less, ai G h_aside 40 aside, oc h 9 [.ref h_s, .ref h_images, .int kept, .ref h_tape, .int typed, .ref h_draft, .int atv, .ref h_items, .ref h_moved, .ref h_sizes, .ref h_lanes, .ref h_less, .ref h_aside, .ref h_order], ai G h_s 161 sv] := hD
    refine lv_if_eq (tgt := 35) hx hb dX9_film_15 (by decide) (fun c_4 => ?_) (fun c_4 => ?_)
    · replace hw := hw.1 c_4
      refine lv_iconst (v := (-1 : Int32)) hx hb dX9_film_35 (by decide) ?_
      have hP9 := hP.sub (ws' := [oc h 9 [.ref h_s, .ref h_images, .int kept, .ref h_tape, .int typed, .ref h_draft, .int atv, .ref h_items, .ref h_moved, .ref h_sizes, .ref h_lanes, .ref h_less, .ref h_aside, .ref h_order], ai G h_s 161 sv, al G h_items 96 items, ai G h_sizes 4 sizes, ai G h_lanes 4 lanes, ai G h_less 6 less, ai G h_aside 40 aside]) [5, 6, 0, 1, 2, 3, 4] rfl
      have hD9 := hD.sub (ws' := [oc h 9 [.ref h_s, .ref h_images, .int kept, .ref h_tape, .int typed, .ref h_draft, .int atv, .ref h_items, .ref h_moved, .ref h_sizes, .ref h_lanes, .ref h_less, .ref h_aside, .ref h_order], ai G h_s 161 sv, al G h_items 96 items, ai G h_sizes 4 sizes, ai G h_lanes 4 lanes, ai G h_less 6 less, ai G h_aside 40 aside]) [5, 6, 0, 1, 2, 3, 4] (by decide) rfl
      exact W.iret (v := (-1 : Int32)) hx hb hr (fun t ht hW => ⟨⟨(-1 : Int32), (sv, items, less, aside), rfl, hw, by rw [ht]; exact hP9, hD9⟩, hS.F ht⟩) hS.2.2 dX9_film_36
    · replace hw := hw.2 c_4
      refine lv_iload_n hx hb dX9_film_18 rfl (lv_at hl 3 rfl) ?_
      have hPc := hP.sub (ws' := []) [] rfl
      have hDc := hD.sub (ws' := []) [] (by decide) rfl
      have hFc := va_free (wc := []) hD hS hA [] rfl
      refine va_calli (va_runS (As := [.int p3]) (rest := []) ⟨hx, hb, hml, hown, hts⟩ (mt_X9_isSheet l G  H.size  p3 _ hw) (va_cwS 1 hts (lw_S q1089 q1090 q65 q1091) rfl rfl rfl (by decide +kernel) ⟨Nat.le_of_ble_eq_true rfl, Nat.le_of_ble_eq_true rfl⟩) ⟨fun a U g mk q => by obtain ⟨q0, q1, qP, qK, qD⟩ := q; exact ⟨q0, q1, qP, qK.call, qD⟩, fun U hU hW => ⟨rfl, by rw [hU], by rw [hU]; exact hPc, hK.warm hW, hDc.weaken (fun _ _ _ _ => trivial)⟩⟩ rfl rfl hl.1 rfl (lv_room (Nat.le_of_ble_eq_true rfl)) dX9_film_19 ⟨Nat.le_of_ble_eq_true rfl, Nat.le_of_ble_eq_true rfl⟩) hS (fun q _ h => hFc q h) hFc (fun r_5 _ t H1 locs ht hvm hw hB hz1 hk1 hS => ?_)
      obtain ⟨hP1, hD1⟩ := hB
      rw [ht] at hP1
      obtain ⟨hP, hD⟩ := va_join (wr := [al G h_items 96 items, ai G h_sizes 4 sizes, ai G h_lanes 4 lanes, ai G h_less 6 less, ai G h_aside 40 aside, oc h 9 [.ref h_s, .ref h_images, .int kept, .ref h_tape, .int typed, .ref h_draft, .int atv, .ref h_items, .ref h_moved, .ref h_sizes, .ref h_lanes, .ref h_less, .ref h_aside, .ref h_order], ai G h_s 161 sv]) (w1 := []) hP hD [] [0, 1, 2, 3, 4, 5, 6] rfl rfl (by decide) (by decide) hk1 hFc hP1 hD1
      clear hPc hDc hFc hP1 hD1 hz1 hk1 hvm
      generalize H1 = H at hP hS ⊢
      have hP : va_P G.1 gCl [al G h_items 96 items, ai G h_sizes 4 sizes, ai G h_lanes 4 lanes, ai G h_less 6 less, ai G h_aside 40 aside, oc h 9 [.ref h_s, .ref h_images, .int kept, .ref h_tape, .int typed, .ref h_draft, .int atv, .ref h_items, .ref h_moved, .ref h_sizes, .ref h_lanes, .ref h_less, .ref h_aside, .ref h_order], ai G h_s 161 sv] H := hP
      have hD : va_D A [al G h_items 96 items, ai G h_sizes 4 sizes, ai G h_lanes 4 lanes, ai G h_less 6 less, ai G h_aside 40 aside, oc h 9 [.ref h_s, .ref h_images, .int kept, .ref h_tape, .int typed, .ref h_draft, .int atv, .ref h_items, .ref h_moved, .ref h_sizes, .ref h_lanes, .ref h_less, .ref h_aside, .ref h_order], ai G h_s 161 sv] := hD
      refine lv_if_eq (tgt := 35) hx hb dX9_film_22 (by decide) (fun c_6 => ?_) (fun c_6 => ?_)
      · replace hw := hw.1 c_6
        refine lv_iconst (v := (-1 : Int32)) hx hb dX9_film_35 (by decide) ?_
        have hP9 := hP.sub (ws' := [oc h 9 [.ref h_s, .ref h_images, .int kept, .ref h_tape, .int typed, .ref h_draft, .int atv, .ref h_items, .ref h_moved, .ref h_sizes, .ref h_lanes, .ref h_less, .ref h_aside, .ref h_order], ai G h_s 161 sv, al G h_items 96 items, ai G h_sizes 4 sizes, ai G h_lanes 4 lanes, ai G h_less 6 less, ai G h_aside 40 aside]) [5, 6, 0, 1, 2, 3, 4] rfl
        have hD9 := hD.sub (ws' := [oc h 9 [.ref h_s, .ref h_images, .int kept, .ref h_tape, .int typed, .ref h_draft, .int atv, .ref h_items, .ref h_moved, .ref h_sizes, .ref h_lanes, .ref h_less, .ref h_aside, .ref h_order], ai G h_s 161 sv, al G h_items 96 items, ai G h_sizes 4 sizes, ai G h_lanes 4 lanes, ai G h_less 6 less, ai G h_aside 40 aside]) [5, 6, 0, 1, 2, 3, 4] (by decide) rfl
        exact W.iret (v := (-1 : Int32)) hx hb hr (fun t ht hW => ⟨⟨(-1 : Int32), (sv, items, less, aside), rfl, hw, by rw [ht]; exact hP9, hD9⟩, hS.F ht⟩) hS.2.2 dX9_film_36
      · replace hw := hw.2 c_6
        refine lv_iload hx hb dX9_film_25 (lv_at hl 4 rfl) ?_
        refine lv_iconst (v := (0 : Int32)) hx hb dX9_film_27 (by decide) ?_
        refine lv_iconst (v := (3 : Int32)) hx hb dX9_film_28 (by decide) ?_
        have hPc := hP.sub (ws' := []) [] rfl
        have hDc := hD.sub (ws' := []) [] (by decide) rfl
        have hFc := va_free (wc := []) hD hS hA [] rfl
        refine va_calli (va_runS (As := [.int p4, .int (0 : Int32), .int (3 : Int32)]) (rest := []) ⟨hx, hb, hml, hown, hts⟩ (mt_X9_in l G  H.size  p4 (0 : Int32) (3 : Int32) _ hw) (va_cwS 3 hts (lw_S q864 q865 q65 q866) rfl rfl rfl (by decide +kernel) ⟨Nat.le_of_ble_eq_true rfl, Nat.le_of_ble_eq_true rfl⟩) ⟨fun a U g mk q => by obtain ⟨q0, q1, qP, qK, qD⟩ := q; exact ⟨q0, q1, qP, qK.call, qD⟩, fun U hU hW => ⟨rfl, by rw [hU], by rw [hU]; exact hPc, hK.warm hW, hDc.weaken (fun _ _ _ _ => trivial)⟩⟩ rfl rfl hl.1 rfl (lv_room (Nat.le_of_ble_eq_true rfl)) dX9_film_29 ⟨Nat.le_of_ble_eq_true rfl, Nat.le_of_ble_eq_true rfl⟩) hS (fun q _ h => hFc q h) hFc (fun r_7 _ t H1 locs ht hvm hw hB hz1 hk1 hS => ?_)
        obtain ⟨hP1, hD1⟩ := hB
        rw [ht] at hP1
        obtain ⟨hP, hD⟩ := va_join (wr := [al G h_items 96 items, ai G h_sizes 4 sizes, ai G h_lanes 4 lanes, ai G h_less 6 less, ai G h_aside 40 aside, oc h 9 [.ref h_s, .ref h_images, .int kept, .ref h_tape, .int typed, .ref h_draft, .int atv, .ref h_items, .ref h_moved, .ref h_sizes, .ref h_lanes, .ref h_less, .ref h_aside, .ref h_order], ai G h_s 161 sv]) (w1 := []) hP hD [] [0, 1, 2, 3, 4, 5, 6] rfl rfl (by decide) (by decide) hk1 hFc hP1 hD1
        clear hPc hDc hFc hP1 hD1 hz1 hk1 hvm
        generalize H1 = H at hP hS ⊢
        have hP : va_P G.1 gCl [al G h_items 96 items, ai G h_sizes 4 sizes, ai G h_lanes 4 lanes, ai G h_less 6 less, ai G h_aside 40 aside, oc h 9 [.ref h_s, .ref h_images, .int kept, .ref h_tape, .int typed, .ref h_draft, .int atv, .ref h_items, .ref h_moved, .ref h_sizes, .ref h_lanes, .ref h_less, .ref h_aside, .ref h_order], ai G h_s 161 sv] H := hP
        have hD : va_D A [al G h_items 96 items, ai G h_sizes 4 sizes, ai G h_lanes 4 lanes, ai G h_less 6 less, ai G h_aside 40 aside, oc h 9 [.ref h_s, .ref h_images, .int kept, .ref h_tape, .int typed, .ref h_draft, .int atv, .ref h_items, .ref h_moved, .ref h_sizes, .ref h_lanes, .ref h_less, .ref h_aside, .ref h_order], ai G h_s 161 sv] := hD
        refine lv_if_ne (tgt := 37) hx hb dX9_film_32 (by decide) (fun c_8 => ?_) (fun c_8 => ?_)
        · replace hw := hw.1 c_8
          refine lv_aload_n hx hb dX9_film_37 rfl (lv_at hl 0 rfl) ?_
          refine lv_iload_n hx hb dX9_film_38 rfl (lv_at hl 3 rfl) ?_
          refine lv_iload hx hb dX9_film_39 (lv_at hl 4 rfl) ?_
          refine lv_iload hx hb dX9_film_41 (lv_at hl 5 rfl) ?_
          refine lv_iload_n hx hb dX9_film_43 rfl (lv_at hl 2 rfl) ?_
          have hPc := hP.sub (ws' := [oc h 9 [.ref h_s, .ref h_images, .int kept, .ref h_tape, .int typed, .ref h_draft, .int atv, .ref h_items, .ref h_moved, .ref h_sizes, .ref h_lanes, .ref h_less, .ref h_aside, .ref h_order], ai G h_sizes 4 sizes, ai G h_lanes 4 lanes]) [5, 1, 2] rfl
          have hDc := hD.sub (ws' := [oc h 9 [.ref h_s, .ref h_images, .int kept, .ref h_tape, .int typed, .ref h_draft, .int atv, .ref h_items, .ref h_moved, .ref h_sizes, .ref h_lanes, .ref h_less, .ref h_aside, .ref h_order], ai G h_sizes 4 sizes, ai G h_lanes 4 lanes]) [5, 1, 2] (by decide) rfl
          have hFc := va_free (wc := [oc h 9 [.ref h_s, .ref h_images, .int kept, .ref h_tape, .int typed, .ref h_draft, .int atv, .ref h_items, .ref h_moved, .ref h_sizes, .ref h_lanes, .ref h_less, .ref h_aside, .ref h_order], ai G h_sizes 4 sizes, ai G h_lanes 4 lanes]) hD hS hA [5, 1, 2] rfl
          refine va_calli (va_runV (As := [.int p3, .int p4, .int p5, .int p2]) (rest := []) ⟨hx, hb, hml, hown, hts⟩ (mt_X9_barred l G h h_s h_images h_tape h_draft h_items h_moved h_sizes h_lanes h_less h_aside h_order H.size kept typed atv sizes lanes p3 p4 p5 p2 _ hw) (cwV 4 hts (lw_V q1092 q1094 qs51 q65 q1095) rfl rfl rfl (by decide +kernel) ⟨Nat.le_of_ble_eq_true rfl, Nat.le_of_ble_eq_true rfl⟩) ⟨fun a U g mk q => by obtain ⟨q0, q1, qP, qK, qD⟩ := q; exact ⟨q0, q1, qP, qK.call, qD⟩, va_recv hK.1 hP (ci := 9) (q0 := 5) rfl rfl, fun U hU hW => ⟨rfl, by rw [hU], by rw [hU]; exact hPc, hK.warm hW, hDc.weaken (fun _ _ _ _ => trivial)⟩⟩ rfl rfl hl.1 rfl (lv_room (Nat.le_of_ble_eq_true rfl)) dX9_film_44 ⟨Nat.le_of_ble_eq_true rfl, Nat.le_of_ble_eq_true rfl⟩) hS (fun q _ h => hFc q h) hFc (fun r_9 _ t H1 locs ht hvm hw hB hz1 hk1 hS => ?_)
          obtain ⟨hP1, hD1⟩ := hB
          rw [ht] at hP1
          obtain ⟨hP, hD⟩ := va_join (wr := [al G h_items 96 items, ai G h_less 6 less, ai G h_aside 40 aside, ai G h_s 161 sv]) (w1 := [oc h 9 [.ref h_s, .ref h_images, .int kept, .ref h_tape, .int typed, .ref h_draft, .int atv, .ref h_items, .ref h_moved, .ref h_sizes, .ref h_lanes, .ref h_less, .ref h_aside, .ref h_order], ai G h_sizes 4 sizes, ai G h_lanes 4 lanes]) hP hD [5, 1, 2] [0, 3, 4, 6] rfl rfl (by decide) (by decide) hk1 hFc hP1 hD1
          clear hPc hDc hFc hP1 hD1 hz1 hk1 hvm
          generalize H1 = H at hP hS ⊢
          have hP : va_P G.1 gCl [al G h_items 96 items, ai G h_less 6 less, ai G h_aside 40 aside, ai G h_s 161 sv, oc h 9 [.ref h_s, .ref h_images, .int kept, .ref h_tape, .int typed, .ref h_draft, .int atv, .ref h_items, .ref h_moved, .ref h_sizes, .ref h_lanes, .ref h_less, .ref h_aside, .ref h_order], ai G h_sizes 4 sizes, ai G h_lanes 4 lanes] H := hP
          have hD : va_D A [al G h_items 96 items, ai G h_less 6 less, ai G h_aside 40 aside, ai G h_s 161 sv, oc h 9 [.ref h_s, .ref h_images, .int kept, .ref h_tape, .int typed, .ref h_draft, .int atv, .ref h_items, .ref h_moved, .ref h_sizes, .ref h_lanes, .ref h_less, .ref h_aside, .ref h_order], ai G h_sizes 4 sizes, ai G h_lanes 4 lanes] := hD
          refine lv_istore (lv' := [(6, .int r_9), (0, .ref h), (1, .int p1), (2, .int p2), (3, .int p3), (4, .int p4), (5, .int p5)]) hx hb dX9_film_47 hl (by decide) rfl (fun ls hl => ?_)
          refine lv_iload hx hb dX9_film_49 (lv_at hl 0 rfl) ?_
          refine lv_if_eq (tgt := 57) hx hb dX9_film_51 (by decide) (fun c_10 => ?_) (fun c_10 => ?_)
          · replace hw := hw.1 c_10
            refine lv_aload_n hx hb dX9_film_57 rfl (lv_at hl 1 rfl) ?_
            have hPc := hP.sub (ws' := [oc h 9 [.ref h_s, .ref h_images, .int kept, .ref h_tape, .int typed, .ref h_draft, .int atv, .ref h_items, .ref h_moved, .ref h_sizes, .ref h_lanes, .ref h_less, .ref h_aside, .ref h_order], ai G h_s 161 sv, ai G h_aside 40 aside]) [4, 3, 2] rfl
            have hDc := hD.sub (ws' := [oc h 9 [.ref h_s, .ref h_images, .int kept, .ref h_tape, .int typed, .ref h_draft, .int atv, .ref h_items, .ref h_moved, .ref h_sizes, .ref h_lanes, .ref h_less, .ref h_aside, .ref h_order], ai G h_s 161 sv, ai G h_aside 40 aside]) [4, 3, 2] (by decide) rfl
            have hFc := va_free (wc := [oc h 9 [.ref h_s, .ref h_images, .int kept, .ref h_tape, .int typed, .ref h_draft, .int atv, .ref h_items, .ref h_moved, .ref h_sizes, .ref h_lanes, .ref h_less, .ref h_aside, .ref h_order], ai G h_s 161 sv, ai G h_aside 40 aside]) hD hS hA [4, 3, 2] rfl
            refine va_callv (va_runV (As := []) (rest := []) ⟨hx, hb, hml, hown, hts⟩ (mt_X9_holds l G h h_s h_images h_tape h_draft h_items h_moved h_sizes h_lanes h_less h_aside h_order H.size kept typed atv sv aside  _ hw) (cwV 0 hts (lw_V q1010 q1012 qs45 q65 q1013) rfl rfl rfl (by decide +kernel) ⟨Nat.le_of_ble_eq_true rfl, Nat.le_of_ble_eq_true rfl⟩) ⟨fun a U g mk q => by obtain ⟨q0, q1, qP, qK, qD⟩ := q; exact ⟨q0, q1, qP, qK.call, qD⟩, va_recv hK.1 hP (ci := 9) (q0 := 4) rfl rfl, fun U hU hW => ⟨rfl, by rw [hU], by rw [hU]; exact hPc, hK.warm hW, hDc.weaken (fun _ _ _ _ => trivial)⟩⟩ rfl rfl hl.1 rfl (lv_room (Nat.le_of_ble_eq_true rfl)) dX9_film_58 ⟨Nat.le_of_ble_eq_true rfl, Nat.le_of_ble_eq_true rfl⟩) hS (fun q _ h => hFc q h) hFc (fun u_11 t H1 locs ht hvm hw hB hz1 hk1 hS => ?_)
            obtain ⟨hP1, hD1⟩ := hB
            rw [ht] at hP1
            obtain ⟨hP, hD⟩ := va_join (wr := [al G h_items 96 items, ai G h_less 6 less, ai G h_sizes 4 sizes, ai G h_lanes 4 lanes]) (w1 := [oc h 9 [.ref h_s, .ref h_images, .int kept, .ref h_tape, .int typed, .ref h_draft, .int atv, .ref h_items, .ref h_moved, .ref h_sizes, .ref h_lanes, .ref h_less, .ref h_aside, .ref h_order], ai G h_s 161 sv, ai G h_aside 40 u_11]) hP hD [4, 3, 2] [0, 1, 5, 6] rfl rfl (by decide) (by decide) hk1 hFc hP1 hD1
            clear hPc hDc hFc hP1 hD1 hz1 hk1 hvm
            generalize H1 = H at hP hS ⊢
            have hP : va_P G.1 gCl [al G h_items 96 items, ai G h_less 6 less, ai G h_sizes 4 sizes, ai G h_lanes 4 lanes, oc h 9 [.ref h_s, .ref h_images, .int kept, .ref h_tape, .int typed, .ref h_draft, .int atv, .ref h_items, .ref h_moved, .ref h_sizes, .ref h_lanes, .ref h_less, .ref h_aside, .ref h_order], ai G h_s 161 sv, ai G h_aside 40 u_11] H := hP
            have hD : va_D A [al G h_items 96 items, ai G h_less 6 less, ai G h_sizes 4 sizes, ai G h_lanes 4 lanes, oc h 9 [.ref h_s, .ref h_images, .int kept, .ref h_tape, .int typed, .ref h_draft, .int atv, .ref h_items, .ref h_moved, .ref h_sizes, .ref h_lanes, .ref h_less, .ref h_aside, .ref h_order], ai G h_s 161 sv, ai G h_aside 40 u_11] := hD
            refine lv_iconst (v := (0 : Int32)) hx hb dX9_film_61 (by decide) ?_
            refine lv_istore (lv' := [(7, .int (0 : Int32)), (6, .int r_9), (0, .ref h), (1, .int p1), (2, .int p2), (3, .int p3), (4, .int p4), (5, .int p5)]) hx hb dX9_film_62 hl (by decide) rfl (fun ls hl => ?_)
            obtain ⟨j_, hw⟩ := hw
            exact wk_X9_film_64 h h_s h_images h_tape h_draft h_items h_moved h_sizes h_lanes h_less h_aside h_order kept typed atv sizes lanes p1 p2 p3 p4 p5  Q  C  j_ sv items less u_11 (0 : Int32) H locs (hP.sub [4, 5, 0, 2, 3, 1, 6] rfl) (hD.sub [4, 5, 0, 2, 3, 1, 6] (by decide) rfl) hS ls (lv_sub hl [2, 3, 4, 5, 7, 0] rfl) hw
          · replace hw := hw.2 c_10
            refine lv_iload hx hb dX9_film_54 (lv_at hl 0 rfl) ?_
            have hP9 := hP.sub (ws' := [oc h 9 [.ref h_s, .ref h_images, .int kept, .ref h_tape, .int typed, .ref h_draft, .int atv, .ref h_items, .ref h_moved, .ref h_sizes, .ref h_lanes, .ref h_less, .ref h_aside, .ref h_order], ai G h_s 161 sv, al G h_items 96 items, ai G h_sizes 4 sizes, ai G h_lanes 4 lanes, ai G h_less 6 less, ai G h_aside 40 aside]) [4, 3, 0, 5, 6, 1, 2] rfl
            have hD9 := hD.sub (ws' := [oc h 9 [.ref h_s, .ref h_images, .int kept, .ref h_tape, .int typed, .ref h_draft, .int atv, .ref h_items, .ref h_moved, .ref h_sizes, .ref h_lanes, .ref h_less, .ref h_aside, .ref h_order], ai G h_s 161 sv, al G h_items 96 items, ai G h_sizes 4 sizes, ai G h_lanes 4 lanes, ai G h_less 6 less, ai G h_aside 40 aside]) [4, 3, 0, 5, 6, 1, 2] (by decide) rfl
            exact W.iret (v := r_9) hx hb hr (fun t ht hW => ⟨⟨r_9, (sv, items, less, aside), rfl, hw, by rw [ht]; exact hP9, hD9⟩, hS.F ht⟩) hS.2.2 dX9_film_56
        · replace hw := hw.2 c_8
          refine lv_iconst (v := (-1 : Int32)) hx hb dX9_film_35 (by decide) ?_
          have hP9 := hP.sub (ws' := [oc h 9 [.ref h_s, .ref h_images, .int kept, .ref h_tape, .int typed, .ref h_draft, .int atv, .ref h_items, .ref h_moved, .ref h_sizes, .ref h_lanes, .ref h_less, .ref h_aside, .ref h_order], ai G h_s 161 sv, al G h_items 96 items, ai G h_sizes 4 sizes, ai G h_lanes 4 lanes, ai G h_less 6 less, ai G h_aside 40 aside]) [5, 6, 0, 1, 2, 3, 4] rfl
          have hD9 := hD.sub (ws' := [oc h 9 [.ref h_s, .ref h_images, .int kept, .ref h_tape, .int typed, .ref h_draft, .int atv, .ref h_items, .ref h_moved, .ref h_sizes, .ref h_lanes, .ref h_less, .ref h_aside, .ref h_order], ai G h_s 161 sv, al G h_items 96 items, ai G h_sizes 4 sizes, ai G h_lanes 4 lanes, ai G h_less 6 less, ai G h_aside 40 aside]) [5, 6, 0, 1, 2, 3, 4] (by decide) rfl
          exact W.iret (v := (-1 : Int32)) hx hb hr (fun t ht hW => ⟨⟨(-1 : Int32), (sv, items, less, aside), rfl, hw, by rw [ht]; exact hP9, hD9⟩, hS.F ht⟩) hS.2.2 dX9_film_36
/-! BattleBenchModel.sheet(III)I -/
def wp_X9_sheet_48 (p1 : Int32) (p2 : Int32) (p3 : Int32) (Q : Int32 → ((Nat → Int64) × (Nat → Int32) × (Nat → Int32)) → Prop)  : Nat → (Nat → Int64) → (Nat → Int32) → (Nat → Int32) → Int32 → Prop
  | 0, _, _, _, _ => False
  | n + 1, items, sizes, lanes, x4 =>
    ((((24 : Int32) ≤ x4) → Q p3 (items, sizes, lanes)) ∧ (¬ ((24 : Int32) ≤ x4) → (vp_in (((24 : Int32) * p1) + x4) 96 ∧ ∀ f_3 : Nat → Int64, f_3 = vp_updL items ((((24 : Int32) * p1) + x4)).toNatClampNeg (0 : Int64) → wp_X9_sheet_48 p1 p2 p3 Q  n f_3 sizes lanes (x4 + (1 : Int32)))))
set_option maxHeartbeats 4000000 in
theorem wk_X9_sheet_48 {p : Program} {l : Launch} {e : Env} {s : State} {m : MethodId} {below : List Frame} {meth : Method} {c : Code} {args : Array Value} {G : GT} {A : Nat → Prop} (h h_s h_images h_tape h_draft h_items h_moved h_sizes h_lanes h_less h_aside h_order : Nat) (kept : Int32) (typed : Int32) (atv : Int32) (p1 : Int32) (p2 : Int32) (p3 : Int32) (Q : Int32 → ((Nat → Int64) × (Nat → Int32) × (Nat → Int32)) → Prop)  (C : Cx p s m meth c cX9_sheet 5 (some .int) RX9 args G A)  :
    ∀ (n : Nat), ∀  (items : Nat → Int64) (sizes : Nat → Int32) (lanes : Nat → Int32) (x4 : Int32) (H : Heap) (locs : List Loc), va_P G.1 gCl [oc h 9 [.ref h_s, .ref h_images, .int kept, .ref h_tape, .int typed, .ref h_draft, .int atv, .ref h_items, .ref h_moved, .ref h_sizes, .ref h_lanes, .ref h_less, .ref h_aside, .ref h_order], al G h_items 96 items, ai G h_sizes 4 sizes, ai G h_lanes 4 lanes] H → va_D A [oc h 9 [.ref h_s, .ref h_images, .int kept, .ref h_tape, .int typed, .ref h_draft, .int atv, .ref h_items, .ref h_moved, .ref h_sizes, .ref h_lanes, .ref h_less, .ref h_aside, .ref h_order], al G h_items 96 items, ai G h_sizes 4 sizes, ai G h_lanes 4 lanes] → va_S A s.heap H locs → ∀ (ls : Array Slot), lv_has ls 5 [(0, .ref h), (1, .int p1), (3, .int p3), (4, .int x4)] → wp_X9_sheet_48 p1 p2 p3 Q  n items sizes lanes x4 → W p l e ({ frames := 2, cells := 0, slots := 0, locals := 42 } : Room) s m args below meth c H locs 0 0 (MQ below (va_Qi (fun (r : Int32) (u : (Nat → Int64) × (Nat → Int32) × (Nat → Int32)) => Q r u) (fun u t => va_P G.1 gCl [oc h 9 [.ref h_s, .ref h_images, .int kept, .ref h_tape, .int typed, .ref h_draft, .int atv, .ref h_items, .ref h_moved, .ref h_sizes, .ref h_lanes, .ref h_less, .ref h_aside, .ref h_order], al G h_items 96 u.1, ai G h_sizes 4 u.2.1, ai G h_lanes 4 u.2.2] t.heap ∧ va_D A [oc h 9 [.ref h_s, .ref h_images, .int kept, .ref h_tape, .int typed, .ref h_draft, .int atv, .ref h_items, .ref h_moved, .ref h_sizes, .ref h_lanes, .ref h_less, .ref h_aside, .ref h_order], al G h_items 96 u.1, ai G h_sizes 4 u.2.1, ai G h_lanes 4 u.2.2]) A) args s 0 0 A) (F0 m 48 ls []) := by
  have C9 := C
  obtain ⟨hx, hb, hr, hlocks, hml, hown, hts, hK, hA⟩ := C9
  intro n
  induction n with
  | zero => intro items sizes lanes x4 H locs hP hD hS ls hl hw; exact False.elim hw
  | succ n ih =>
    intro items sizes lanes x4 H locs hP hD hS ls hl hw
    unfold wp_X9_sheet_48 at hw
    refine lv_iload hx hb dX9_sheet_48 (lv_at hl 3 rfl) ?_
    refine lv_bipush (v := (24 : Int32)) hx hb dX9_sheet_50 (by decide) ?_
    refine lv_icmp_ge (tgt := 74) hx hb dX9_sheet_52 (by decide) (fun c_1 => ?_) (fun c_1 => ?_)
    · replace hw := hw.1 c_1
      refine lv_iload_n hx hb dX9_sheet_74 rfl (lv_at hl 2 rfl) ?_
      have hP9 := hP
      have hD9 := hD
      exact W.iret (v := p3) hx hb hr (fun t ht hW => ⟨⟨p3, (items, sizes, lanes), rfl, hw, by rw [ht]; exact hP9, hD9⟩, hS.F ht⟩) hS.2.2 dX9_sheet_75
    · replace hw := hw.2 c_1
      refine lv_aload_n hx hb dX9_sheet_55 rfl (lv_at hl 0 rfl) ?_
      refine va_get (D := G.1) (ci := 9) (v := .ref h_items) (C := RX9) (T := TX9) (N := 14) hx hb hts in_X9 hown hK.1 hP 0 rfl rfl 7 (by decide) (hts _ q824) (fun _ h9 => h9) rfl dX9_sheet_56 ?_
      refine lv_bipush (v := (24 : Int32)) hx hb dX9_sheet_59 (by decide) ?_
      refine lv_iload_n hx hb dX9_sheet_61 rfl (lv_at hl 1 rfl) ?_
      refine lv_imul hx hb dX9_sheet_62 ?_
      refine lv_iload hx hb dX9_sheet_63 (lv_at hl 3 rfl) ?_
      refine lv_iadd hx hb dX9_sheet_65 ?_
      refine lv_lconst (v := (0 : Int64)) hx hb dX9_sheet_66 (by decide) ?_
      obtain ⟨i_2, hw⟩ := hw
      refine z_last hx hb hK.1 hP hD hS 1 1 rfl rfl i_2 dX9_sheet_67 (k := ((((24 : Int32) * p1) + x4)).toNatClampNeg) rfl (fun f_3 ef_3 H locs hP hD hS => ?_)
      replace hw := hw f_3 ef_3
      have hP : va_P G.1 gCl [oc h 9 [.ref h_s, .ref h_images, .int kept, .ref h_tape, .int typed, .ref h_draft, .int atv, .ref h_items, .ref h_moved, .ref h_sizes, .ref h_lanes, .ref h_less, .ref h_aside, .ref h_order], al G h_items 96 f_3, ai G h_sizes 4 sizes, ai G h_lanes 4 lanes] H := hP
      have hD : va_D A [oc h 9 [.ref h_s, .ref h_images, .int kept, .ref h_tape, .int typed, .ref h_draft, .int atv, .ref h_items, .ref h_moved, .ref h_sizes, .ref h_lanes, .ref h_less, .ref h_aside, .ref h_order], al G h_items 96 f_3, ai G h_sizes 4 sizes, ai G h_lanes 4 lanes] := hD
      refine lv_iinc (v := (x4 + (1 : Int32))) (lv' := [(4, .int (x4 + (1 : Int32))), (0, .ref h), (1, .int p1), (3, .int p3)]) hx hb dX9_sheet_68 hl (k := 3) rfl rfl (by decide) rfl (fun ls hl => ?_)
      refine lv_goto (tgt := 48) hx hb dX9_sheet_71 (by decide) ?_
      exact ih f_3 sizes lanes (x4 + (1 : Int32)) H locs hP hD hS ls (lv_sub hl [1, 2, 3, 0] rfl) hw
def wp_X9_sheet (items : Nat → Int64) (sizes : Nat → Int32) (lanes : Nat → Int32) (p1 : Int32) (p2 : Int32) (p3 : Int32) (Q : Int32 → ((Nat → Int64) × (Nat → Int32) × (Nat → Int32)) → Prop) : Prop :=
  wp_X9_isSheet  p1 (fun r_1 => (((r_1 = 0) → Q (-1 : Int32) (items, sizes, lanes)) ∧ (¬ (r_1 = 0) → wp_X9_in  p2 (0 : Int32) (3 : Int32) (fun r_3 => (((r_3 = 0) → Q (-1 : Int32) (items, sizes, lanes)) ∧ (¬ (r_3 = 0) → (((p3 ≤ (24 : Int32)) → (((0 ≤ p3) → (vp_in p1 4 ∧ ∀ f_8 : Nat → Int32, f_8 = upd sizes p1.toNatClampNeg p3 → (vp_in p1 4 ∧ ∀ f_10 : Nat → Int32, f_10 = upd lanes p1.toNatClampNeg p2 → (∃ j_ : Nat, wp_X9_sheet_48 p1 p2 p3 Q  j_ items f_8 f_10 (0 : Int32))))) ∧ (¬ (0 ≤ p3) → Q (-14 : Int32) (items, sizes, lanes)))) ∧ (¬ (p3 ≤ (24 : Int32)) → Q (-1 : Int32) (items, sizes, lanes)))))))))
set_option maxHeartbeats 4000000 in
theorem mt_X9_sheet (l : Launch) (G : GT) (h h_s h_images h_tape h_draft h_items h_moved h_sizes h_lanes h_less h_aside h_order : Nat) (sz : Nat) (kept : Int32) (typed : Int32) (atv : Int32) (items : Nat → Int64) (sizes : Nat → Int32) (lanes : Nat → Int32) (p1 : Int32) (p2 : Int32) (p3 : Int32) (Q : Int32 → ((Nat → Int64) × (Nat → Int32) × (Nat → Int32)) → Prop) (hw : wp_X9_sheet items sizes lanes p1 p2 p3 Q) : Met l yX9_sheet (ws_ yX9_sheet cX9_sheet 5 (some .int)) ({ frames := 2, cells := 0, slots := 0, locals := 42 } : Room) (va_Pc [.ref h, .int p1, .int p2, .int p3] (fun U => U.heap.size = sz ∧ va_P G.1 gCl [oc h 9 [.ref h_s, .ref h_images, .int kept, .ref h_tape, .int typed, .ref h_draft, .int atv, .ref h_items, .ref h_moved, .ref h_sizes, .ref h_lanes, .ref h_less, .ref h_aside, .ref h_order], al G h_items 96 items, ai G h_sizes 4 sizes, ai G h_lanes 4 lanes] U.heap ∧ gK G U ∧ va_D (fun _ => True) [oc h 9 [.ref h_s, .ref h_images, .int kept, .ref h_tape, .int typed, .ref h_draft, .int atv, .ref h_items, .ref h_moved, .ref h_sizes, .ref h_lanes, .ref h_less, .ref h_aside, .ref h_order], al G h_items 96 items, ai G h_sizes 4 sizes, ai G h_lanes 4 lanes])) ((fun A => (va_Qi (fun (r : Int32) (u : (Nat → Int64) × (Nat → Int32) × (Nat → Int32)) => Q r u) (fun u t => va_P G.1 gCl [oc h 9 [.ref h_s, .ref h_images, .int kept, .ref h_tape, .int typed, .ref h_draft, .int atv, .ref h_items, .ref h_moved, .ref h_sizes, .ref h_lanes, .ref h_less, .ref h_aside, .ref h_order], al G h_items 96 u.1, ai G h_sizes 4 u.2.1, ai G h_lanes 4 u.2.2] t.heap ∧ va_D A [oc h 9 [.ref h_s, .ref h_images, .int kept, .ref h_tape, .int typed, .ref h_draft, .int atv, .ref h_items, .ref h_moved, .ref h_sizes, .ref h_lanes, .ref h_less, .ref h_aside, .ref h_order], al G h_items 96 u.1, ai G h_sizes 4 u.2.1, ai G h_lanes 4 u.2.2]) A)) (va_A [oc h 9 [.ref h_s, .ref h_images, .int kept, .ref h_tape, .int typed, .ref h_draft, .int atv, .ref h_items, .ref h_moved, .ref h_sizes, .ref h_lanes, .ref h_less, .ref h_aside, .ref h_order], al G h_items 96 items, ai G h_sizes 4 sizes, ai G h_lanes 4 lanes] sz)) 0 0 (va_A [oc h 9 [.ref h_s, .ref h_images, .int kept, .ref h_tape, .int typed, .ref h_draft, .int atv, .ref h_items, .ref h_moved, .ref h_sizes, .ref h_lanes, .ref h_less, .ref h_aside, .ref h_order], al G h_items 96 items, ai G h_sizes 4 sizes, ai G h_lanes 4 lanes] sz) := by
  refine Met.ofW (cc := cX9_sheet) (maxL := 5) (ret := (some .int)) (by decide) rfl ?_
  intro p e s m args below meth c s₁ B hml hv
  obtain ⟨rfl, hsz, hP, hK, hD0⟩ := hv
  have hx := B.exec
  have hb := B.bytes
  have hr := B.returns
  have hts := atoms_spec (ws := (ws_ yX9_sheet cX9_sheet 5 (some .int))) B.pre
  have hts : ∀ w ∈ lw_all, w.before _ s = true := fun w h => hts w (List.mem_cons_of_mem _ h)
  have hown : s.vm.findClass RX9 = some m.cls := findClass_of_methodNamed B.named
  have hlocks := B.notSynchronized
  subst hsz
  have hD := hD0.self (sz := s.heap.size)
  generalize hAe : va_A [oc h 9 [.ref h_s, .ref h_images, .int kept, .ref h_tape, .int typed, .ref h_draft, .int atv, .ref h_items, .ref h_moved, .ref h_sizes, .ref h_lanes, .ref h_less, .ref h_aside, .ref h_order], al G h_items 96 items, ai G h_sizes 4 sizes, ai G h_lanes 4 lanes] s.heap.size = A at hD ⊢
  have hA : ∀ q : Nat, s.heap.size ≤ q → A q := fun q h => by rw [← hAe]; exact Or.inr h
  have hS : va_S A s.heap s.heap [] := va_S.rf
  have C : Cx p s m meth c cX9_sheet 5 (some .int) RX9 ([.ref h, .int p1, .int p2, .int p3] : List Value).toArray G A := ⟨hx, hb, hr, hlocks, hml, hown, hts, hK, hA⟩
  have hl := lv_entry ([.ref h, .int p1, .int p2, .int p3]) (n := 5) (Nat.le_of_ble_eq_true rfl)
  rw [lg_entry_eq]
  generalize (lg_sl ([.ref h, .int p1, .int p2, .int p3]) ++ List.replicate (5 - (lg_sl ([.ref h, .int p1, .int p2, .int p3])).length) Slot.unset).toArray = ls at hl ⊢
  have hl : lv_has ls 5 [(0, .ref h), (1, .int p1), (2, .int p2), (3, .int p3)] := hl
  unfold wp_X9_sheet at hw
  refine lv_iload_n hx hb dX9_sheet_0 rfl (lv_at hl 1 rfl) ?_
  have hPc := hP.sub (ws' := []) [] rfl
  have hDc := hD.sub (ws' := []) [] (by decide) rfl
  have hFc := va_free (wc := []) hD hS hA [] rfl
  refine va_calli (va_runS (As := [.int p1]) (rest := []) ⟨hx, hb, hml, hown, hts⟩ (mt_X9_isSheet l G  s.heap.size  p1 _ hw) (va_cwS 1 hts (lw_S q1089 q1090 q65 q1091) rfl rfl rfl (by decide +kernel) ⟨Nat.le_of_ble_eq_true rfl, Nat.le_of_ble_eq_true rfl⟩) ⟨fun a U g mk q => by obtain ⟨q0, q1, qP, qK, qD⟩ := q; exact ⟨q0, q1, qP, qK.call, qD⟩, fun U hU hW => ⟨rfl, by rw [hU], by rw [hU]; exact hPc, hK.warm hW, hDc.weaken (fun _ _ _ _ => trivial)⟩⟩ rfl rfl hl.1 rfl (lv_room (Nat.le_of_ble_eq_true rfl)) dX9_sheet_1 ⟨Nat.le_of_ble_eq_true rfl, Nat.le_of_ble_eq_true rfl⟩) hS (fun q _ h => hFc q h) hFc (fun r_1 _ t H1 locs ht hvm hw hB hz1 hk1 hS => ?_)
  obtain ⟨hP1, hD1⟩ := hB
  rw [ht] at hP1
  obtain ⟨hP, hD⟩ := va_join (wr := [oc h 9 [.ref h_s, .ref h_images, .int kept, .ref h_tape, .int typed, .ref h_draft, .int atv, .ref h_items, .ref h_moved, .ref h_sizes, .ref h_lanes, .ref h_less, .ref h_aside, .ref h_order], al G h_items 96 items, ai G h_sizes 4 sizes, ai G h_lanes 4 lanes]) (w1 := []) hP hD [] [0, 1, 2, 3] rfl rfl (by decide) (by decide) hk1 hFc hP1 hD1
  clear hPc hDc hFc hP1 hD1 hz1 hk1 hvm
  generalize H1 = H at hP hS ⊢
  have hP : va_P G.1 gCl [oc h 9 [.ref h_s, .ref h_images, .int kept, .ref h_tape, .int typed, .ref h_draft, .int atv, .ref h_items, .ref h_moved, .ref h_sizes, .ref h_lanes, .ref h_less, .ref h_aside, .ref h_order], al G h_items 96 items, ai G h_sizes 4 sizes, ai G h_lanes 4 lanes] H := hP
  have hD : va_D A [oc h 9 [.ref h_s, .ref h_images, .int kept, .ref h_tape, .int typed, .ref h_draft, .int atv, .ref h_items, .ref h_moved, .ref h_sizes, .ref h_lanes, .ref h_less, .ref h_aside, .ref h_order], al G h_items 96 items, ai G h_sizes 4 sizes, ai G h_lanes 4 lanes] := hD
  refine lv_if_eq (tgt := 22) hx hb dX9_sheet_4 (by decide) (fun c_2 => ?_) (fun c_2 => ?_)
  · replace hw := hw.1 c_2
    refine lv_iconst (v := (-1 : Int32)) hx hb dX9_sheet_22 (by decide) ?_
    have hP9 := hP
    have hD9 := hD
    exact W.iret (v := (-1 : Int32)) hx hb hr (fun t ht hW => ⟨⟨(-1 : Int32), (items, sizes, lanes), rfl, hw, by rw [ht]; exact hP9, hD9⟩, hS.F ht⟩) hS.2.2 dX9_sheet_23
  · replace hw := hw.2 c_2
    refine lv_iload_n hx hb dX9_sheet_7 rfl (lv_at hl 2 rfl) ?_
    refine lv_iconst (v := (0 : Int32)) hx hb dX9_sheet_8 (by decide) ?_
    refine lv_iconst (v := (3 : Int32)) hx hb dX9_sheet_9 (by decide) ?_
    have hPc := hP.sub (ws' := []) [] rfl
    have hDc := hD.sub (ws' := []) [] (by decide) rfl
    have hFc := va_free (wc := []) hD hS hA [] rfl
    refine va_calli (va_runS (As := [.int p2, .int (0 : Int32), .int (3 : Int32)]) (rest := []) ⟨hx, hb, hml, hown, hts⟩ (mt_X9_in l G  H.size  p2 (0 : Int32) (3 : Int32) _ hw) (va_cwS 3 hts (lw_S q864 q865 q65 q866) rfl rfl rfl (by decide +kernel) ⟨Nat.le_of_ble_eq_true rfl, Nat.le_of_ble_eq_true rfl⟩) ⟨fun a U g mk q => by obtain ⟨q0, q1, qP, qK, qD⟩ := q; exact ⟨q0, q1, qP, qK.call, qD⟩, fun U hU hW => ⟨rfl, by rw [hU], by rw [hU]; exact hPc, hK.warm hW, hDc.weaken (fun _ _ _ _ => trivial)⟩⟩ rfl rfl hl.1 rfl (lv_room (Nat.le_of_ble_eq_true rfl)) dX9_sheet_10 ⟨Nat.le_of_ble_eq_true rfl, Nat.le_of_ble_eq_true rfl⟩) hS (fun q _ h => hFc q h) hFc (fun r_3 _ t H1 locs ht hvm hw hB hz1 hk1 hS => ?_)
    obtain ⟨hP1, hD1⟩ := hB
    rw [ht] at hP1
    obtain ⟨hP, hD⟩ := va_join (wr := [oc h 9 [.ref h_s, .ref h_images, .int kept, .ref h_tape, .int typed, .ref h_draft, .int atv, .ref h_items, .ref h_moved, .ref h_sizes, .ref h_lanes, .ref h_less, .ref h_aside, .ref h_order], al G h_items 96 items, ai G h_sizes 4 sizes, ai G h_lanes 4 lanes]) (w1 := []) hP hD [] [0, 1, 2, 3] rfl rfl (by decide) (by decide) hk1 hFc hP1 hD1
    clear hPc hDc hFc hP1 hD1 hz1 hk1 hvm
    generalize H1 = H at hP hS ⊢
    have hP : va_P G.1 gCl [oc h 9 [.ref h_s, .ref h_images, .int kept, .ref h_tape, .int typed, .ref h_draft, .int atv, .ref h_items, .ref h_moved, .ref h_sizes, .ref h_lanes, .ref h_less, .ref h_aside, .ref h_order], al G h_items 96 items, ai G h_sizes 4 sizes, ai G h_lanes 4 lanes] H := hP
    have hD : va_D A [oc h 9 [.ref h_s, .ref h_images, .int kept, .ref h_tape, .int typed, .ref h_draft, .int atv, .ref h_items, .ref h_moved, .ref h_sizes, .ref h_lanes, .ref h_less, .ref h_aside, .ref h_order], al G h_items 96 items, ai G h_sizes 4 sizes, ai G h_lanes 4 lanes] := hD
    refine lv_if_eq (tgt := 22) hx hb dX9_sheet_13 (by decide) (fun c_4 => ?_) (fun c_4 => ?_)
    · replace hw := hw.1 c_4
      refine lv_iconst (v := (-1 : Int32)) hx hb dX9_sheet_22 (by decide) ?_
      have hP9 := hP
      have hD9 := hD
      exact W.iret (v := (-1 : Int32)) hx hb hr (fun t ht hW => ⟨⟨(-1 : Int32), (items, sizes, lanes), rfl, hw, by rw [ht]; exact hP9, hD9⟩, hS.F ht⟩) hS.2.2 dX9_sheet_23
    · replace hw := hw.2 c_4
      refine lv_iload_n hx hb dX9_sheet_16 rfl (lv_at hl 3 rfl) ?_
      refine lv_bipush (v := (24 : Int32)) hx hb dX9_sheet_17 (by decide) ?_
      refine lv_icmp_le (tgt := 24) hx hb dX9_sheet_19 (by decide) (fun c_5 => ?_) (fun c_5 => ?_)
      · replace hw := hw.1 c_5
        refine lv_iload_n hx hb dX9_sheet_24 rfl (lv_at hl 3 rfl) ?_
        refine lv_if_ge (tgt := 31) hx hb dX9_sheet_25 (by decide) (fun c_6 => ?_) (fun c_6 => ?_)
        · replace hw := hw.1 c_6
          refine lv_aload_n hx hb dX9_sheet_31 rfl (lv_at hl 0 rfl) ?_
          refine va_get (D := G.1) (ci := 9) (v := .ref h_sizes) (C := RX9) (T := TX9) (N := 14) hx hb hts in_X9 hown hK.1 hP 0 rfl rfl 9 (by decide) (hts _ q826) (fun _ h9 => h9) rfl dX9_sheet_32 ?_
          refine lv_iload_n hx hb dX9_sheet_35 rfl (lv_at hl 1 rfl) ?_
          refine lv_iload_n hx hb dX9_sheet_36 rfl (lv_at hl 3 rfl) ?_
          obtain ⟨i_7, hw⟩ := hw
          refine z_iast hx hb hK.1 hP hD hS 2 0 rfl rfl i_7 dX9_sheet_37 (k := p1.toNatClampNeg) rfl (fun f_8 ef_8 H locs hP hD hS => ?_)
          replace hw := hw f_8 ef_8
          have hP : va_P G.1 gCl [oc h 9 [.ref h_s, .ref h_images, .int kept, .ref h_tape, .int typed, .ref h_draft, .int atv, .ref h_items, .ref h_moved, .ref h_sizes, .ref h_lanes, .ref h_less, .ref h_aside, .ref h_order], al G h_items 96 items, ai G h_sizes 4 f_8, ai G h_lanes 4 lanes] H := hP
          have hD : va_D A [oc h 9 [.ref h_s, .ref h_images, .int kept, .ref h_tape, .int typed, .ref h_draft, .int atv, .ref h_items, .ref h_moved, .ref h_sizes, .ref h_lanes, .ref h_less, .ref h_aside, .ref h_order], al G h_items 96 items, ai G h_sizes 4 f_8, ai G h_lanes 4 lanes] := hD
          refine lv_aload_n hx hb dX9_sheet_38 rfl (lv_at hl 0 rfl) ?_
          refine va_get (D := G.1) (ci := 9) (v := .ref h_lanes) (C := RX9) (T := TX9) (N := 14) hx hb hts in_X9 hown hK.1 hP 0 rfl rfl 10 (by decide) (hts _ q827) (fun _ h9 => h9) rfl dX9_sheet_39 ?_
          refine lv_iload_n hx hb dX9_sheet_42 rfl (lv_at hl 1 rfl) ?_
          refine lv_iload_n hx hb dX9_sheet_43 rfl (lv_at hl 2 rfl) ?_
          obtain ⟨i_9, hw⟩ := hw
          refine z_iast hx hb hK.1 hP hD hS 3 0 rfl rfl i_9 dX9_sheet_44 (k := p1.toNatClampNeg) rfl (fun f_10 ef_10 H locs hP hD hS => ?_)
          replace hw := hw f_10 ef_10
          have hP : va_P G.1 gCl [oc h 9 [.ref h_s, .ref h_images, .int kept, .ref h_tape, .int typed, .ref h_draft, .int atv, .ref h_items, .ref h_moved, .ref h_sizes, .ref h_lanes, .ref h_less, .ref h_aside, .ref h_order], al G h_items 96 items, ai G h_sizes 4 f_8, ai G h_lanes 4 f_10] H := hP
          have hD : va_D A [oc h 9 [.ref h_s, .ref h_images, .int kept, .ref h_tape, .int typed, .ref h_draft, .int atv, .ref h_items, .ref h_moved, .ref h_sizes, .ref h_lanes, .ref h_less, .ref h_aside, .ref h_order], al G h_items 96 items, ai G h_sizes 4 f_8, ai G h_lanes 4 f_10] := hD
          refine lv_iconst (v := (0 : Int32)) hx hb dX9_sheet_45 (by decide) ?_
          refine lv_istore (lv' := [(4, .int (0 : Int32)), (0, .ref h), (1, .int p1), (2, .int p2), (3, .int p3)]) hx hb dX9_sheet_46 hl (by decide) rfl (fun ls hl => ?_)
          obtain ⟨j_, hw⟩ := hw
          exact wk_X9_sheet_48 h h_s h_images h_tape h_draft h_items h_moved h_sizes h_lanes h_less h_aside h_order kept typed atv p1 p2 p3  Q  C  j_ items f_8 f_10 (0 : Int32) H locs hP hD hS ls (lv_sub hl [1, 2, 4, 0] rfl) hw
        · replace hw := hw.2 c_6
          refine lv_bipush (v := (-14 : Int32)) hx hb dX9_sheet_28 (by decide) ?_
          have hP9 := hP
          have hD9 := hD
          exact W.iret (v := (-14 : Int32)) hx hb hr (fun t ht hW => ⟨⟨(-14 : Int32), (items, sizes, lanes), rfl, hw, by rw [ht]; exact hP9, hD9⟩, hS.F ht⟩) hS.2.2 dX9_sheet_30
      · replace hw := hw.2 c_5
        refine lv_iconst (v := (-1 : Int32)) hx hb dX9_sheet_22 (by decide) ?_
        have hP9 := hP
        have hD9 := hD
        exact W.iret (v := (-1 : Int32)) hx hb hr (fun t ht hW => ⟨⟨(-1 : Int32), (items, sizes, lanes), rfl, hw, by rw [ht]; exact hP9, hD9⟩, hS.F ht⟩) hS.2.2 dX9_sheet_23
/-! BattleBenchModel.drop(I)I -/
def wp_X9_drop (sizes : Nat → Int32) (p1 : Int32) (Q : Int32 → ((Nat → Int32)) → Prop) : Prop :=
  wp_X9_isSheet  p1 (fun r_1 => ((¬ (r_1 = 0) → (vp_in p1 4 ∧ (((0 ≤ (sizes p1.toNatClampNeg)) → (vp_in p1 4 ∧ (∀ v_6 : Int32, v_6 = (sizes p1.toNatClampNeg) → (vp_in p1 4 ∧ ∀ f_8 : Nat → Int32, f_8 = upd sizes p1.toNatClampNeg (-1 : Int32) → Q v_6 f_8)))) ∧ (¬ (0 ≤ (sizes p1.toNatClampNeg)) → Q (-11 : Int32) sizes)))) ∧ ((r_1 = 0) → Q (-1 : Int32) sizes)))
set_option maxHeartbeats 4000000 in
theorem mt_X9_drop (l : Launch) (G : GT) (h h_s h_images h_tape h_draft h_items h_moved h_sizes h_lanes h_less h_aside h_order : Nat) (sz : Nat) (kept : Int32) (typed : Int32) (atv : Int32) (sizes : Nat → Int32) (p1 : Int32) (Q : Int32 → ((Nat → Int32)) → Prop) (hw : wp_X9_drop sizes p1 Q) : Met l yX9_drop (ws_ yX9_drop cX9_drop 3 (some .int)) ({ frames := 2, cells := 0, slots := 0, locals := 42 } : Room) (va_Pc [.ref h, .int p1] (fun U => U.heap.size = sz ∧ va_P G.1 gCl [oc h 9 [.ref h_s, .ref h_images, .int kept, .ref h_tape, .int typed, .ref h_draft, .int atv, .ref h_items, .ref h_moved, .ref h_sizes, .ref h_lanes, .ref h_less, .ref h_aside, .ref h_order], ai G h_sizes 4 sizes] U.heap ∧ gK G U ∧ va_D (fun _ => True) [oc h 9 [.ref h_s, .ref h_images, .int kept, .ref h_tape, .int typed, .ref h_draft, .int atv, .ref h_items, .ref h_moved, .ref h_sizes, .ref h_lanes, .ref h_less, .ref h_aside, .ref h_order], ai G h_sizes 4 sizes])) ((fun A => (va_Qi (fun (r : Int32) (u : (Nat → Int32)) => Q r u) (fun u t => va_P G.1 gCl [oc h 9 [.ref h_s, .ref h_images, .int kept, .ref h_tape, .int typed, .ref h_draft, .int atv, .ref h_items, .ref h_moved, .ref h_sizes, .ref h_lanes, .ref h_less, .ref h_aside, .ref h_order], ai G h_sizes 4 u] t.heap ∧ va_D A [oc h 9 [.ref h_s, .ref h_images, .int kept, .ref h_tape, .int typed, .ref h_draft, .int atv, .ref h_items, .ref h_moved, .ref h_sizes, .ref h_lanes, .ref h_less, .ref h_aside, .ref h_order], ai G h_sizes 4 u]) A)) (va_A [oc h 9 [.ref h_s, .ref h_images, .int kept, .ref h_tape, .int typed, .ref h_draft, .int atv, .ref h_items, .ref h_moved, .ref h_sizes, .ref h_lanes, .ref h_less, .ref h_aside, .ref h_order], ai G h_sizes 4 sizes] sz)) 0 0 (va_A [oc h 9 [.ref h_s, .ref h_images, .int kept, .ref h_tape, .int typed, .ref h_draft, .int atv, .ref h_items, .ref h_moved, .ref h_sizes, .ref h_lanes, .ref h_less, .ref h_aside, .ref h_order], ai G h_sizes 4 sizes] sz) := by
  refine Met.ofW (cc := cX9_drop) (maxL := 3) (ret := (some .int)) (by decide) rfl ?_
  intro p e s m args below meth c s₁ B hml hv
  obtain ⟨rfl, hsz, hP, hK, hD0⟩ := hv
  have hx := B.exec
  have hb := B.bytes
  have hr := B.returns
  have hts := atoms_spec (ws := (ws_ yX9_drop cX9_drop 3 (some .int))) B.pre
  have hts : ∀ w ∈ lw_all, w.before _ s = true := fun w h => hts w (List.mem_cons_of_mem _ h)
  have hown : s.vm.findClass RX9 = some m.cls := findClass_of_methodNamed B.named
  have hlocks := B.notSynchronized
  subst hsz
  have hD := hD0.self (sz := s.heap.size)
  generalize hAe : va_A [oc h 9 [.ref h_s, .ref h_images, .int kept, .ref h_tape, .int typed, .ref h_draft, .int atv, .ref h_items, .ref h_moved, .ref h_sizes, .ref h_lanes, .ref h_less, .ref h_aside, .ref h_order], ai G h_sizes 4 sizes] s.heap.size = A at hD ⊢
  have hA : ∀ q : Nat, s.heap.size ≤ q → A q := fun q h => by rw [← hAe]; exact Or.inr h
  have hS : va_S A s.heap s.heap [] := va_S.rf
  have C : Cx p s m meth c cX9_drop 3 (some .int) RX9 ([.ref h, .int p1] : List Value).toArray G A := ⟨hx, hb, hr, hlocks, hml, hown, hts, hK, hA⟩
  have hl := lv_entry ([.ref h, .int p1]) (n := 3) (Nat.le_of_ble_eq_true rfl)
  rw [lg_entry_eq]
  generalize (lg_sl ([.ref h, .int p1]) ++ List.replicate (3 - (lg_sl ([.ref h, .int p1])).length) Slot.unset).toArray = ls at hl ⊢
  have hl : lv_has ls 3 [(0, .ref h), (1, .int p1)] := hl
  unfold wp_X9_drop at hw
  refine lv_iload_n hx hb dX9_drop_0 rfl (lv_at hl 1 rfl) ?_
  have hPc := hP.sub (ws' := []) [] rfl
  have hDc := hD.sub (ws' := []) [] (by decide) rfl
  have hFc := va_free (wc := []) hD hS hA [] rfl
  refine va_calli (va_runS (As := [.int p1]) (rest := []) ⟨hx, hb, hml, hown, hts⟩ (mt_X9_isSheet l G  s.heap.size  p1 _ hw) (va_cwS 1 hts (lw_S q1089 q1090 q65 q1091) rfl rfl rfl (by decide +kernel) ⟨Nat.le_of_ble_eq_true rfl, Nat.le_of_ble_eq_true rfl⟩) ⟨fun a U g mk q => by obtain ⟨q0, q1, qP, qK, qD⟩ := q; exact ⟨q0, q1, qP, qK.call, qD⟩, fun U hU hW => ⟨rfl, by rw [hU], by rw [hU]; exact hPc, hK.warm hW, hDc.weaken (fun _ _ _ _ => trivial)⟩⟩ rfl rfl hl.1 rfl (lv_room (Nat.le_of_ble_eq_true rfl)) dX9_drop_1 ⟨Nat.le_of_ble_eq_true rfl, Nat.le_of_ble_eq_true rfl⟩) hS (fun q _ h => hFc q h) hFc (fun r_1 _ t H1 locs ht hvm hw hB hz1 hk1 hS => ?_)
  obtain ⟨hP1, hD1⟩ := hB
  rw [ht] at hP1
  obtain ⟨hP, hD⟩ := va_join (wr := [oc h 9 [.ref h_s, .ref h_images, .int kept, .ref h_tape, .int typed, .ref h_draft, .int atv, .ref h_items, .ref h_moved, .ref h_sizes, .ref h_lanes, .ref h_less, .ref h_aside, .ref h_order], ai G h_sizes 4 sizes]) (w1 := []) hP hD [] [0, 1] rfl rfl (by decide) (by decide) hk1 hFc hP1 hD1
  clear hPc hDc hFc hP1 hD1 hz1 hk1 hvm
  generalize H1 = H at hP hS ⊢
  have hP : va_P G.1 gCl [oc h 9 [.ref h_s, .ref h_images, .int kept, .ref h_tape, .int typed, .ref h_draft, .int atv, .ref h_items, .ref h_moved, .ref h_sizes, .ref h_lanes, .ref h_less, .ref h_aside, .ref h_order], ai G h_sizes 4 sizes] H := hP
  have hD : va_D A [oc h 9 [.ref h_s, .ref h_images, .int kept, .ref h_tape, .int typed, .ref h_draft, .int atv, .ref h_items, .ref h_moved, .ref h_sizes, .ref h_lanes, .ref h_less, .ref h_aside, .ref h_order], ai G h_sizes 4 sizes] := hD
  refine lv_if_ne (tgt := 9) hx hb dX9_drop_4 (by decide) (fun c_2 => ?_) (fun c_2 => ?_)
  · replace hw := hw.1 c_2
    refine lv_aload_n hx hb dX9_drop_9 rfl (lv_at hl 0 rfl) ?_
    refine va_get (D := G.1) (ci := 9) (v := .ref h_sizes) (C := RX9) (T := TX9) (N := 14) hx hb hts in_X9 hown hK.1 hP 0 rfl rfl 9 (by decide) (hts _ q826) (fun _ h9 => h9) rfl dX9_drop_10 ?_
    refine lv_iload_n hx hb dX9_drop_13 rfl (lv_at hl 1 rfl) ?_
    obtain ⟨i_3, hw⟩ := hw
    refine z_iald hx hb hK.1 hP 1 0 rfl rfl i_3 dX9_drop_14 (k := p1.toNatClampNeg) rfl ?_
    refine lv_if_ge (tgt := 21) hx hb dX9_drop_15 (by decide) (fun c_4 => ?_) (fun c_4 => ?_)
    · replace hw := hw.1 c_4
      refine lv_aload_n hx hb dX9_drop_21 rfl (lv_at hl 0 rfl) ?_
      refine va_get (D := G.1) (ci := 9) (v := .ref h_sizes) (C := RX9) (T := TX9) (N := 14) hx hb hts in_X9 hown hK.1 hP 0 rfl rfl 9 (by decide) (hts _ q826) (fun _ h9 => h9) rfl dX9_drop_22 ?_
      refine lv_iload_n hx hb dX9_drop_25 rfl (lv_at hl 1 rfl) ?_
      obtain ⟨i_5, hw⟩ := hw
      refine z_iald hx hb hK.1 hP 1 0 rfl rfl i_5 dX9_drop_26 (k := p1.toNatClampNeg) rfl ?_
      refine lv_topi (fun v_6 ev_6 => ?_)
      replace hw := hw v_6 ev_6
      refine lv_istore_n (lv' := [(2, .int v_6), (0, .ref h), (1, .int p1)]) hx hb dX9_drop_27 rfl hl (by decide) rfl (fun ls hl => ?_)
      refine lv_aload_n hx hb dX9_drop_28 rfl (lv_at hl 1 rfl) ?_
      refine va_get (D := G.1) (ci := 9) (v := .ref h_sizes) (C := RX9) (T := TX9) (N := 14) hx hb hts in_X9 hown hK.1 hP 0 rfl rfl 9 (by decide) (hts _ q826) (fun _ h9 => h9) rfl dX9_drop_29 ?_
      refine lv_iload_n hx hb dX9_drop_32 rfl (lv_at hl 2 rfl) ?_
      refine lv_iconst (v := (-1 : Int32)) hx hb dX9_drop_33 (by decide) ?_
      obtain ⟨i_7, hw⟩ := hw
      refine z_iast hx hb hK.1 hP hD hS 1 0 rfl rfl i_7 dX9_drop_34 (k := p1.toNatClampNeg) rfl (fun f_8 ef_8 H locs hP hD hS => ?_)
      replace hw := hw f_8 ef_8
      have hP : va_P G.1 gCl [oc h 9 [.ref h_s, .ref h_images, .int kept, .ref h_tape, .int typed, .ref h_draft, .int atv, .ref h_items, .ref h_moved, .ref h_sizes, .ref h_lanes, .ref h_less, .ref h_aside, .ref h_order], ai G h_sizes 4 f_8] H := hP
      have hD : va_D A [oc h 9 [.ref h_s, .ref h_images, .int kept, .ref h_tape, .int typed, .ref h_draft, .int atv, .ref h_items, .ref h_moved, .ref h_sizes, .ref h_lanes, .ref h_less, .ref h_aside, .ref h_order], ai G h_sizes 4 f_8] := hD
      refine lv_iload_n hx hb dX9_drop_35 rfl (lv_at hl 0 rfl) ?_
      have hP9 := hP
      have hD9 := hD
      exact W.iret (v := v_6) hx hb hr (fun t ht hW => ⟨⟨v_6, f_8, rfl, hw, by rw [ht]; exact hP9, hD9⟩, hS.F ht⟩) hS.2.2 dX9_drop_36
    · replace hw := hw.2 c_4
      refine lv_bipush (v := (-11 : Int32)) hx hb dX9_drop_18 (by decide) ?_
      have hP9 := hP
      have hD9 := hD
      exact W.iret (v := (-11 : Int32)) hx hb hr (fun t ht hW => ⟨⟨(-11 : Int32), sizes, rfl, hw, by rw [ht]; exact hP9, hD9⟩, hS.F ht⟩) hS.2.2 dX9_drop_20
  · replace hw := hw.2 c_2
    refine lv_iconst (v := (-1 : Int32)) hx hb dX9_drop_7 (by decide) ?_
    have hP9 := hP
    have hD9 := hD
    exact W.iret (v := (-1 : Int32)) hx hb hr (fun t ht hW => ⟨⟨(-1 : Int32), sizes, rfl, hw, by rw [ht]; exact hP9, hD9⟩, hS.F ht⟩) hS.2.2 dX9_drop_8
/-! BattleBenchModel.cut(IJ)J -/
def wp_X9_cut (p0 : Int32) (p1 : Int64) (Q : Int64 → Prop) : Prop :=
  ((¬ (p0 = 0) → ((¬ (p0 = (1 : Int32)) → ((¬ (p0 = (2 : Int32)) → Q p1) ∧ ((p0 = (2 : Int32)) → Q (Int32.toInt64 (Int64.toInt32 p1))))) ∧ ((p0 = (1 : Int32)) → Q (Int32.toInt64 (Int16.toInt32 (Int32.toInt16 (Int64.toInt32 p1))))))) ∧ ((p0 = 0) → Q (Int32.toInt64 (Int8.toInt32 (Int32.toInt8 (Int64.toInt32 p1))))))
set_option maxHeartbeats 4000000 in
theorem mt_X9_cut (l : Launch) (G : GT)  (sz : Nat) (p0 : Int32) (p1 : Int64) (Q : Int64 → Prop) (hw : wp_X9_cut p0 p1 Q) : Met l yX9_cut (ws_ yX9_cut cX9_cut 3 (some .long)) ({ frames := 0, cells := 0, slots := 0, locals := 0 } : Room) (va_Pc [.int p0, .long p1] (fun U => U.heap.size = sz ∧ va_P G.1 gCl [] U.heap ∧ gK G U ∧ va_D (fun _ => True) [])) ((fun A => (va_Ql (fun (r : Int64) (u : Unit) => Q r ) (fun u t => va_P G.1 gCl [] t.heap ∧ va_D A []) A)) (va_A [] sz)) 0 0 (va_A [] sz) := by
  refine Met.ofW (cc := cX9_cut) (maxL := 3) (ret := (some .long)) (by decide) rfl ?_
  intro p e s m args below meth c s₁ B hml hv
  obtain ⟨rfl, hsz, hP, hK, hD0⟩ := hv
  have hx := B.exec
  have hb := B.bytes
  have hr := B.returns
  have hts := atoms_spec (ws := (ws_ yX9_cut cX9_cut 3 (some .long))) B.pre
  have hts : ∀ w ∈ lw_all, w.before _ s = true := fun w h => hts w (List.mem_cons_of_mem _ h)
  have hown : s.vm.findClass RX9 = some m.cls := findClass_of_methodNamed B.named
  have hlocks := B.notSynchronized
  subst hsz
  have hD := hD0.self (sz := s.heap.size)
  generalize hAe : va_A [] s.heap.size = A at hD ⊢
  have hA : ∀ q : Nat, s.heap.size ≤ q → A q := fun q h => by rw [← hAe]; exact Or.inr h
  have hS : va_S A s.heap s.heap [] := va_S.rf
  have C : Cx p s m meth c cX9_cut 3 (some .long) RX9 ([.int p0, .long p1] : List Value).toArray G A := ⟨hx, hb, hr, hlocks, hml, hown, hts, hK, hA⟩
  have hl := lv_entry ([.int p0, .long p1]) (n := 3) (Nat.le_of_ble_eq_true rfl)
  rw [lg_entry_eq]
  generalize (lg_sl ([.int p0, .long p1]) ++ List.replicate (3 - (lg_sl ([.int p0, .long p1])).length) Slot.unset).toArray = ls at hl ⊢
  have hl : lv_has ls 3 [(0, .int p0), (1, .long p1)] := hl
  unfold wp_X9_cut at hw
  refine lv_iload_n hx hb dX9_cut_0 rfl (lv_at hl 0 rfl) ?_
  refine lv_if_ne (tgt := 11) hx hb dX9_cut_1 (by decide) (fun c_1 => ?_) (fun c_1 => ?_)
  · replace hw := hw.1 c_1
    refine lv_iload_n hx hb dX9_cut_11 rfl (lv_at hl 0 rfl) ?_
    refine lv_iconst (v := (1 : Int32)) hx hb dX9_cut_12 (by decide) ?_
    refine lv_icmp_ne (tgt := 23) hx hb dX9_cut_13 (by decide) (fun c_2 => ?_) (fun c_2 => ?_)
    · replace hw := hw.1 c_2
      refine lv_iload_n hx hb dX9_cut_23 rfl (lv_at hl 0 rfl) ?_
      refine lv_iconst (v := (2 : Int32)) hx hb dX9_cut_24 (by decide) ?_
      refine lv_icmp_ne (tgt := 34) hx hb dX9_cut_25 (by decide) (fun c_3 => ?_) (fun c_3 => ?_)
      · replace hw := hw.1 c_3
        refine lv_lload_n hx hb dX9_cut_34 rfl (lv_at hl 1 rfl) ?_
        have hP9 := hP
        have hD9 := hD
        exact W.lret (v := p1) hx hb hr (fun t ht hW => ⟨⟨p1, (), rfl, hw, by rw [ht]; exact hP9, hD9⟩, hS.F ht⟩) hS.2.2 dX9_cut_35
      · replace hw := hw.2 c_3
        refine lv_lload_n hx hb dX9_cut_28 rfl (lv_at hl 1 rfl) ?_
        refine lv_l2i hx hb dX9_cut_29 rfl ?_
        refine lv_i2l hx hb dX9_cut_30 rfl ?_
        refine lv_goto (tgt := 35) hx hb dX9_cut_31 (by decide) ?_
        have hP9 := hP
        have hD9 := hD
        exact W.lret (v := (Int32.toInt64 (Int64.toInt32 p1))) hx hb hr (fun t ht hW => ⟨⟨(Int32.toInt64 (Int64.toInt32 p1)), (), rfl, hw, by rw [ht]; exact hP9, hD9⟩, hS.F ht⟩) hS.2.2 dX9_cut_35
    · replace hw := hw.2 c_2
      refine lv_lload_n hx hb dX9_cut_16 rfl (lv_at hl 1 rfl) ?_
      refine lv_l2i hx hb dX9_cut_17 rfl ?_
      refine lv_i2s hx hb dX9_cut_18 rfl ?_
      refine lv_i2l hx hb dX9_cut_19 rfl ?_
      refine lv_goto (tgt := 35) hx hb dX9_cut_20 (by decide) ?_
      have hP9 := hP
      have hD9 := hD
      exact W.lret (v := (Int32.toInt64 (Int16.toInt32 (Int32.toInt16 (Int64.toInt32 p1))))) hx hb hr (fun t ht hW => ⟨⟨(Int32.toInt64 (Int16.toInt32 (Int32.toInt16 (Int64.toInt32 p1)))), (), rfl, hw, by rw [ht]; exact hP9, hD9⟩, hS.F ht⟩) hS.2.2 dX9_cut_35
  · replace hw := hw.2 c_1
    refine lv_lload_n hx hb dX9_cut_4 rfl (lv_at hl 1 rfl) ?_
    refine lv_l2i hx hb dX9_cut_5 rfl ?_
    refine lv_i2b hx hb dX9_cut_6 rfl ?_
    refine lv_i2l hx hb dX9_cut_7 rfl ?_
    refine lv_goto (tgt := 35) hx hb dX9_cut_8 (by decide) ?_
    have hP9 := hP
    have hD9 := hD
    exact W.lret (v := (Int32.toInt64 (Int8.toInt32 (Int32.toInt8 (Int64.toInt32 p1))))) hx hb hr (fun t ht hW => ⟨⟨(Int32.toInt64 (Int8.toInt32 (Int32.toInt8 (Int64.toInt32 p1)))), (), rfl, hw, by rw [ht]; exact hP9, hD9⟩, hS.F ht⟩) hS.2.2 dX9_cut_35
/-! BattleBenchModel.item(IIIJ)I -/
def wp_X9_item (items : Nat → Int64) (sizes : Nat → Int32) (lanes : Nat → Int32) (p1 : Int32) (p2 : Int32) (p3 : Int32) (p4 : Int64) (Q : Int32 → ((Nat → Int64)) → Prop) : Prop :=
  wp_X9_isSheet  p1 (fun r_1 => (((r_1 = 0) → Q (-1 : Int32) items) ∧ (¬ (r_1 = 0) → wp_X9_in  p2 (0 : Int32) (3 : Int32) (fun r_3 => ((¬ (r_3 = 0) → wp_X9_barred sizes lanes p1 p2 p3 (1 : Int32) (fun r_5 => (((r_5 = 0) → wp_X9_cut  p2 p4 (fun r_7 => (vp_in (((24 : Int32) * p1) + p3) 96 ∧ ∀ f_9 : Nat → Int64, f_9 = vp_updL items ((((24 : Int32) * p1) + p3)).toNatClampNeg r_7 → Q (1 : Int32) f_9))) ∧ (¬ (r_5 = 0) → Q r_5 items)))) ∧ ((r_3 = 0) → Q (-1 : Int32) items))))))
set_option maxHeartbeats 4000000 in
theorem mt_X9_item (l : Launch) (G : GT) (h h_s h_images h_tape h_draft h_items h_moved h_sizes h_lanes h_less h_aside h_order : Nat) (sz : Nat) (kept : Int32) (typed : Int32) (atv : Int32) (items : Nat → Int64) (sizes : Nat → Int32) (lanes : Nat → Int32) (p1 : Int32) (p2 : Int32) (p3 : Int32) (p4 : Int64) (Q : Int32 → ((Nat → Int64)) → Prop) (hw : wp_X9_item items sizes lanes p1 p2 p3 p4 Q) : Met l yX9_item (ws_ yX9_item cX9_item 7 (some .int)) ({ frames := 2, cells := 0, slots := 0, locals := 42 } : Room) (va_Pc [.ref h, .int p1, .int p2, .int p3, .long p4] (fun U => U.heap.size = sz ∧ va_P G.1 gCl [oc h 9 [.ref h_s, .ref h_images, .int kept, .ref h_tape, .int typed, .ref h_draft, .int atv, .ref h_items, .ref h_moved, .ref h_sizes, .ref h_lanes, .ref h_less, .ref h_aside, .ref h_order], al G h_items 96 items, ai G h_sizes 4 sizes, ai G h_lanes 4 lanes] U.heap ∧ gK G U ∧ va_D (fun _ => True) [oc h 9 [.ref h_s, .ref h_images, .int kept, .ref h_tape, .int typed, .ref h_draft, .int atv, .ref h_items, .ref h_moved, .ref h_sizes, .ref h_lanes, .ref h_less, .ref h_aside, .ref h_order], al G h_items 96 items, ai G h_sizes 4 sizes, ai G h_lanes 4 lanes])) ((fun A => (va_Qi (fun (r : Int32) (u : (Nat → Int64)) => Q r u) (fun u t => va_P G.1 gCl [oc h 9 [.ref h_s, .ref h_images, .int kept, .ref h_tape, .int typed, .ref h_draft, .int atv, .ref h_items, .ref h_moved, .ref h_sizes, .ref h_lanes, .ref h_less, .ref h_aside, .ref h_order], al G h_items 96 u, ai G h_sizes 4 sizes, ai G h_lanes 4 lanes] t.heap ∧ va_D A [oc h 9 [.ref h_s, .ref h_images, .int kept, .ref h_tape, .int typed, .ref h_draft, .int atv, .ref h_items, .ref h_moved, .ref h_sizes, .ref h_lanes, .ref h_less, .ref h_aside, .ref h_order], al G h_items 96 u, ai G h_sizes 4 sizes, ai G h_lanes 4 lanes]) A)) (va_A [oc h 9 [.ref h_s, .ref h_images, .int kept, .ref h_tape, .int typed, .ref h_draft, .int atv, .ref h_items, .ref h_moved, .ref h_sizes, .ref h_lanes, .ref h_less, .ref h_aside, .ref h_order], al G h_items 96 items, ai G h_sizes 4 sizes, ai G h_lanes 4 lanes] sz)) 0 0 (va_A [oc h 9 [.ref h_s, .ref h_images, .int kept, .ref h_tape, .int typed, .ref h_draft, .int atv, .ref h_items, .ref h_moved, .ref h_sizes, .ref h_lanes, .ref h_less, .ref h_aside, .ref h_order], al G h_items 96 items, ai G h_sizes 4 sizes, ai G h_lanes 4 lanes] sz) := by
  refine Met.ofW (cc := cX9_item) (maxL := 7) (ret := (some .int)) (by decide) rfl ?_
  intro p e s m args below meth c s₁ B hml hv
  obtain ⟨rfl, hsz, hP, hK, hD0⟩ := hv
  have hx := B.exec
  have hb := B.bytes
  have hr := B.returns
  have hts := atoms_spec (ws := (ws_ yX9_item cX9_item 7 (some .int))) B.pre
  have hts : ∀ w ∈ lw_all, w.before _ s = true := fun w h => hts w (List.mem_cons_of_mem _ h)
  have hown : s.vm.findClass RX9 = some m.cls := findClass_of_methodNamed B.named
  have hlocks := B.notSynchronized
  subst hsz
  have hD := hD0.self (sz := s.heap.size)
  generalize hAe : va_A [oc h 9 [.ref h_s, .ref h_images, .int kept, .ref h_tape, .int typed, .ref h_draft, .int atv, .ref h_items, .ref h_moved, .ref h_sizes, .ref h_lanes, .ref h_less, .ref h_aside, .ref h_order], al G h_items 96 items, ai G h_sizes 4 sizes, ai G h_lanes 4 lanes] s.heap.size = A at hD ⊢
  have hA : ∀ q : Nat, s.heap.size ≤ q → A q := fun q h => by rw [← hAe]; exact Or.inr h
  have hS : va_S A s.heap s.heap [] := va_S.rf
  have C : Cx p s m meth c cX9_item 7 (some .int) RX9 ([.ref h, .int p1, .int p2, .int p3, .long p4] : List Value).toArray G A := ⟨hx, hb, hr, hlocks, hml, hown, hts, hK, hA⟩
  have hl := lv_entry ([.ref h, .int p1, .int p2, .int p3, .long p4]) (n := 7) (Nat.le_of_ble_eq_true rfl)
  rw [lg_entry_eq]
  generalize (lg_sl ([.ref h, .int p1, .int p2, .int p3, .long p4]) ++ List.replicate (7 - (lg_sl ([.ref h, .int p1, .int p2, .int p3, .long p4])).length) Slot.unset).toArray = ls at hl ⊢
  have hl : lv_has ls 7 [(0, .ref h), (1, .int p1), (2, .int p2), (3, .int p3), (4, .long p4)] := hl
  unfold wp_X9_item at hw
  refine lv_iload_n hx hb dX9_item_0 rfl (lv_at hl 1 rfl) ?_
  have hPc := hP.sub (ws' := []) [] rfl
  have hDc := hD.sub (ws' := []) [] (by decide) rfl
  have hFc := va_free (wc := []) hD hS hA [] rfl
  refine va_calli (va_runS (As := [.int p1]) (rest := []) ⟨hx, hb, hml, hown, hts⟩ (mt_X9_isSheet l G  s.heap.size  p1 _ hw) (va_cwS 1 hts (lw_S q1089 q1090 q65 q1091) rfl rfl rfl (by decide +kernel) ⟨Nat.le_of_ble_eq_true rfl, Nat.le_of_ble_eq_true rfl⟩) ⟨fun a U g mk q => by obtain ⟨q0, q1, qP, qK, qD⟩ := q; exact ⟨q0, q1, qP, qK.call, qD⟩, fun U hU hW => ⟨rfl, by rw [hU], by rw [hU]; exact hPc, hK.warm hW, hDc.weaken (fun _ _ _ _ => trivial)⟩⟩ rfl rfl hl.1 rfl (lv_room (Nat.le_of_ble_eq_true rfl)) dX9_item_1 ⟨Nat.le_of_ble_eq_true rfl, Nat.le_of_ble_eq_true rfl⟩) hS (fun q _ h => hFc q h) hFc (fun r_1 _ t H1 locs ht hvm hw hB hz1 hk1 hS => ?_)
  obtain ⟨hP1, hD1⟩ := hB
  rw [ht] at hP1
  obtain ⟨hP, hD⟩ := va_join (wr := [oc h 9 [.ref h_s, .ref h_images, .int kept, .ref h_tape, .int typed, .ref h_draft, .int atv, .ref h_items, .ref h_moved, .ref h_sizes, .ref h_lanes, .ref h_less, .ref h_aside, .ref h_order], al G h_items 96 items, ai G h_sizes 4 sizes, ai G h_lanes 4 lanes]) (w1 := []) hP hD [] [0, 1, 2, 3] rfl rfl (by decide) (by decide) hk1 hFc hP1 hD1
  clear hPc hDc hFc hP1 hD1 hz1 hk1 hvm
  generalize H1 = H at hP hS ⊢
  have hP : va_P G.1 gCl [oc h 9 [.ref h_s, .ref h_images, .int kept, .ref h_tape, .int typed, .ref h_draft, .int atv, .ref h_items, .ref h_moved, .ref h_sizes, .ref h_lanes, .ref h_less, .ref h_aside, .ref h_order], al G h_items 96 items, ai G h_sizes 4 sizes, ai G h_lanes 4 lanes] H := hP
  have hD : va_D A [oc h 9 [.ref h_s, .ref h_images, .int kept, .ref h_tape, .int typed, .ref h_draft, .int atv, .ref h_items, .ref h_moved, .ref h_sizes, .ref h_lanes, .ref h_less, .ref h_aside, .ref h_order], al G h_items 96 items, ai G h_sizes 4 sizes, ai G h_lanes 4 lanes] := hD
  refine lv_if_eq (tgt := 16) hx hb dX9_item_4 (by decide) (fun c_2 => ?_) (fun c_2 => ?_)
  · replace hw := hw.1 c_2
    refine lv_iconst (v := (-1 : Int32)) hx hb dX9_item_16 (by decide) ?_
    have hP9 := hP
    have hD9 := hD
    exact W.iret (v := (-1 : Int32)) hx hb hr (fun t ht hW => ⟨⟨(-1 : Int32), items, rfl, hw, by rw [ht]; exact hP9, hD9⟩, hS.F ht⟩) hS.2.2 dX9_item_17
  · replace hw := hw.2 c_2
    refine lv_iload_n hx hb dX9_item_7 rfl (lv_at hl 2 rfl) ?_
    refine lv_iconst (v := (0 : Int32)) hx hb dX9_item_8 (by decide) ?_
    refine lv_iconst (v := (3 : Int32)) hx hb dX9_item_9 (by decide) ?_
    have hPc := hP.sub (ws' := []) [] rfl
    have hDc := hD.sub (ws' := []) [] (by decide) rfl
    have hFc := va_free (wc := []) hD hS hA [] rfl
    refine va_calli (va_runS (As := [.int p2, .int (0 : Int32), .int (3 : Int32)]) (rest := []) ⟨hx, hb, hml, hown, hts⟩ (mt_X9_in l G  H.size  p2 (0 : Int32) (3 : Int32) _ hw) (va_cwS 3 hts (lw_S q864 q865 q65 q866) rfl rfl rfl (by decide +kernel) ⟨Nat.le_of_ble_eq_true rfl, Nat.le_of_ble_eq_true rfl⟩) ⟨fun a U g mk q => by obtain ⟨q0, q1, qP, qK, qD⟩ := q; exact ⟨q0, q1, qP, qK.call, qD⟩, fun U hU hW => ⟨rfl, by rw [hU], by rw [hU]; exact hPc, hK.warm hW, hDc.weaken (fun _ _ _ _ => trivial)⟩⟩ rfl rfl hl.1 rfl (lv_room (Nat.le_of_ble_eq_true rfl)) dX9_item_10 ⟨Nat.le_of_ble_eq_true rfl, Nat.le_of_ble_eq_true rfl⟩) hS (fun q _ h => hFc q h) hFc (fun r_3 _ t H1 locs ht hvm hw hB hz1 hk1 hS => ?_)
    obtain ⟨hP1, hD1⟩ := hB
    rw [ht] at hP1
    obtain ⟨hP, hD⟩ := va_join (wr := [oc h 9 [.ref h_s, .ref h_images, .int kept, .ref h_tape, .int typed, .ref h_draft, .int atv, .ref h_items, .ref h_moved, .ref h_sizes, .ref h_lanes, .ref h_less, .ref h_aside, .ref h_order], al G h_items 96 items, ai G h_sizes 4 sizes, ai G h_lanes 4 lanes]) (w1 := []) hP hD [] [0, 1, 2, 3] rfl rfl (by decide) (by decide) hk1 hFc hP1 hD1
    clear hPc hDc hFc hP1 hD1 hz1 hk1 hvm
    generalize H1 = H at hP hS ⊢
    have hP : va_P G.1 gCl [oc h 9 [.ref h_s, .ref h_images, .int kept, .ref h_tape, .int typed, .ref h_draft, .int atv, .ref h_items, .ref h_moved, .ref h_sizes, .ref h_lanes, .ref h_less, .ref h_aside, .ref h_order], al G h_items 96 items, ai G h_sizes 4 sizes, ai G h_lanes 4 lanes] H := hP
    have hD : va_D A [oc h 9 [.ref h_s, .ref h_images, .int kept, .ref h_tape, .int typed, .ref h_draft, .int atv, .ref h_items, .ref h_moved, .ref h_sizes, .ref h_lanes, .ref h_less, .ref h_aside, .ref h_order], al G h_items 96 items, ai G h_sizes 4 sizes, ai G h_lanes 4 lanes] := hD
    refine lv_if_ne (tgt := 18) hx hb dX9_item_13 (by decide) (fun c_4 => ?_) (fun c_4 => ?_)
    · replace hw := hw.1 c_4
      refine lv_aload_n hx hb dX9_item_18 rfl (lv_at hl 0 rfl) ?_
      refine lv_iload_n hx hb dX9_item_19 rfl (lv_at hl 1 rfl) ?_
      refine lv_iload_n hx hb dX9_item_20 rfl (lv_at hl 2 rfl) ?_
      refine lv_iload_n hx hb dX9_item_21 rfl (lv_at hl 3 rfl) ?_
      refine lv_iconst (v := (1 : Int32)) hx hb dX9_item_22 (by decide) ?_
      have hPc := hP.sub (ws' := [oc h 9 [.ref h_s, .ref h_images, .int kept, .ref h_tape, .int typed, .ref h_draft, .int atv, .ref h_items, .ref h_moved, .ref h_sizes, .ref h_lanes, .ref h_less, .ref h_aside, .ref h_order], ai G h_sizes 4 sizes, ai G h_lanes 4 lanes]) [0, 2, 3] rfl
      have hDc := hD.sub (ws' := [oc h 9 [.ref h_s, .ref h_images, .int kept, .ref h_tape, .int typed, .ref h_draft, .int atv, .ref h_items, .ref h_moved, .ref h_sizes, .ref h_lanes, .ref h_less, .ref h_aside, .ref h_order], ai G h_sizes 4 sizes, ai G h_lanes 4 lanes]) [0, 2, 3] (by decide) rfl
      have hFc := va_free (wc := [oc h 9 [.ref h_s, .ref h_images, .int kept, .ref h_tape, .int typed, .ref h_draft, .int atv, .ref h_items, .ref h_moved, .ref h_sizes, .ref h_lanes, .ref h_less, .ref h_aside, .ref h_order], ai G h_sizes 4 sizes, ai G h_lanes 4 lanes]) hD hS hA [0, 2, 3] rfl
      refine va_calli (va_runV (As := [.int p1, .int p2, .int p3, .int (1 : Int32)]) (rest := []) ⟨hx, hb, hml, hown, hts⟩ (mt_X9_barred l G h h_s h_images h_tape h_draft h_items h_moved h_sizes h_lanes h_less h_aside h_order H.size kept typed atv sizes lanes p1 p2 p3 (1 : Int32) _ hw) (cwV 4 hts (lw_V q1092 q1094 qs51 q65 q1095) rfl rfl rfl (by decide +kernel) ⟨Nat.le_of_ble_eq_true rfl, Nat.le_of_ble_eq_true rfl⟩) ⟨fun a U g mk q => by obtain ⟨q0, q1, qP, qK, qD⟩ := q; exact ⟨q0, q1, qP, qK.call, qD⟩, va_recv hK.1 hP (ci := 9) (q0 := 0) rfl rfl, fun U hU hW => ⟨rfl, by rw [hU], by rw [hU]; exact hPc, hK.warm hW, hDc.weaken (fun _ _ _ _ => trivial)⟩⟩ rfl rfl hl.1 rfl (lv_room (Nat.le_of_ble_eq_true rfl)) dX9_item_23 ⟨Nat.le_of_ble_eq_true rfl, Nat.le_of_ble_eq_true rfl⟩) hS (fun q _ h => hFc q h) hFc (fun r_5 _ t H1 locs ht hvm hw hB hz1 hk1 hS => ?_)
      obtain ⟨hP1, hD1⟩ := hB
      rw [ht] at hP1
      obtain ⟨hP, hD⟩ := va_join (wr := [al G h_items 96 items]) (w1 := [oc h 9 [.ref h_s, .ref h_images, .int kept, .ref h_tape, .int typed, .ref h_draft, .int atv, .ref h_items, .ref h_moved, .ref h_sizes, .ref h_lanes, .ref h_less, .ref h_aside, .ref h_order], ai G h_sizes 4 sizes, ai G h_lanes 4 lanes]) hP hD [0, 2, 3] [1] rfl rfl (by decide) (by decide) hk1 hFc hP1 hD1
      clear hPc hDc hFc hP1 hD1 hz1 hk1 hvm
      generalize H1 = H at hP hS ⊢
      have hP : va_P G.1 gCl [al G h_items 96 items, oc h 9 [.ref h_s, .ref h_images, .int kept, .ref h_tape, .int typed, .ref h_draft, .int atv, .ref h_items, .ref h_moved, .ref h_sizes, .ref h_lanes, .ref h_less, .ref h_aside, .ref h_order], ai G h_sizes 4 sizes, ai G h_lanes 4 lanes] H := hP
      have hD : va_D A [al G h_items 96 items, oc h 9 [.ref h_s, .ref h_images, .int kept, .ref h_tape, .int typed, .ref h_draft, .int atv, .ref h_items, .ref h_moved, .ref h_sizes, .ref h_lanes, .ref h_less, .ref h_aside, .ref h_order], ai G h_sizes 4 sizes, ai G h_lanes 4 lanes] := hD
      refine lv_istore (lv' := [(6, .int r_5), (0, .ref h), (1, .int p1), (2, .int p2), (3, .int p3), (4, .long p4)]) hx hb dX9_item_26 hl (by decide) rfl (fun ls hl => ?_)
      refine lv_iload hx hb dX9_item_28 (lv_at hl 0 rfl) ?_
      refine lv_if_eq (tgt := 36) hx hb dX9_item_30 (by decide) (fun c_6 => ?_) (fun c_6 => ?_)
      · replace hw := hw.1 c_6
        refine lv_aload_n hx hb dX9_item_36 rfl (lv_at hl 1 rfl) ?_
        refine va_get (D := G.1) (ci := 9) (v := .ref h_items) (C := RX9) (T := TX9) (N := 14) hx hb hts in_X9 hown hK.1 hP 1 rfl rfl 7 (by decide) (hts _ q824) (fun _ h9 => h9) rfl dX9_item_37 ?_
        refine lv_bipush (v := (24 : Int32)) hx hb dX9_item_40 (by decide) ?_
        refine lv_iload_n hx hb dX9_item_42 rfl (lv_at hl 2 rfl) ?_
        refine lv_imul hx hb dX9_item_43 ?_
        refine lv_iload_n hx hb dX9_item_44 rfl (lv_at hl 4 rfl) ?_
        refine lv_iadd hx hb dX9_item_45 ?_
        refine lv_iload_n hx hb dX9_item_46 rfl (lv_at hl 3 rfl) ?_
        refine lv_lload hx hb dX9_item_47 (lv_at hl 5 rfl) ?_
        have hPc := hP.sub (ws' := []) [] rfl
        have hDc := hD.sub (ws' := []) [] (by decide) rfl
        have hFc := va_free (wc := []) hD hS hA [] rfl
        refine va_calll (va_runS (As := [.int p2, .long p4]) (rest := [.int (((24 : Int32) * p1) + p3), .ref h_items]) ⟨hx, hb, hml, hown, hts⟩ (mt_X9_cut l G  H.size  p2 p4 _ hw) (va_cwS 2 hts (lw_S q1116 q1117 q65 q1118) rfl rfl rfl (by decide +kernel) ⟨Nat.le_of_ble_eq_true rfl, Nat.le_of_ble_eq_true rfl⟩) ⟨fun a U g mk q => by obtain ⟨q0, q1, qP, qK, qD⟩ := q; exact ⟨q0, q1, qP, qK.call, qD⟩, fun U hU hW => ⟨rfl, by rw [hU], by rw [hU]; exact hPc, hK.warm hW, hDc.weaken (fun _ _ _ _ => trivial)⟩⟩ rfl rfl hl.1 rfl (lv_room (Nat.le_of_ble_eq_true rfl)) dX9_item_49 ⟨Nat.le_of_ble_eq_true rfl, Nat.le_of_ble_eq_true rfl⟩) hS (fun q _ h => hFc q h) hFc (fun r_7 _ t H1 locs ht hvm hw hB hz1 hk1 hS => ?_)
        obtain ⟨hP1, hD1⟩ := hB
        rw [ht] at hP1
        obtain ⟨hP, hD⟩ := va_join (wr := [al G h_items 96 items, oc h 9 [.ref h_s, .ref h_images, .int kept, .ref h_tape, .int typed, .ref h_draft, .int atv, .ref h_items, .ref h_moved, .ref h_sizes, .ref h_lanes, .ref h_less, .ref h_aside, .ref h_order], ai G h_sizes 4 sizes, ai G h_lanes 4 lanes]) (w1 := []) hP hD [] [0, 1, 2, 3] rfl rfl (by decide) (by decide) hk1 hFc hP1 hD1
        clear hPc hDc hFc hP1 hD1 hz1 hk1 hvm
        generalize H1 = H at hP hS ⊢
        have hP : va_P G.1 gCl [al G h_items 96 items, oc h 9 [.ref h_s, .ref h_images, .int kept, .ref h_tape, .int typed, .ref h_draft, .int atv, .ref h_items, .ref h_moved, .ref h_sizes, .ref h_lanes, .ref h_less, .ref h_aside, .ref h_order], ai G h_sizes 4 sizes, ai G h_lanes 4 lanes] H := hP
        have hD : va_D A [al G h_items 96 items, oc h 9 [.ref h_s, .ref h_images, .int kept, .ref h_tape, .int typed, .ref h_draft, .int atv, .ref h_items, .ref h_moved, .ref h_sizes, .ref h_lanes, .ref h_less, .ref h_aside, .ref h_order], ai G h_sizes 4 sizes, ai G h_lanes 4 lanes] := hD
        obtain ⟨i_8, hw⟩ := hw
        refine z_last hx hb hK.1 hP hD hS 0 1 rfl rfl i_8 dX9_item_52 (k := ((((24 : Int32) * p1) + p3)).toNatClampNeg) rfl (fun f_9 ef_9 H locs hP hD hS => ?_)
        replace hw := hw f_9 ef_9
        have hP : va_P G.1 gCl [al G h_items 96 f_9, oc h 9 [.ref h_s, .ref h_images, .int kept, .ref h_tape, .int typed, .ref h_draft, .int atv, .ref h_items, .ref h_moved, .ref h_sizes, .ref h_lanes, .ref h_less, .ref h_aside, .ref h_order], ai G h_sizes 4 sizes, ai G h_lanes 4 lanes] H := hP
        have hD : va_D A [al G h_items 96 f_9, oc h 9 [.ref h_s, .ref h_images, .int kept, .ref h_tape, .int typed, .ref h_draft, .int atv, .ref h_items, .ref h_moved, .ref h_sizes, .ref h_lanes, .ref h_less, .ref h_aside, .ref h_order], ai G h_sizes 4 sizes, ai G h_lanes 4 lanes] := hD
        refine lv_iconst (v := (1 : Int32)) hx hb dX9_item_53 (by decide) ?_
        have hP9 := hP.sub (ws' := [oc h 9 [.ref h_s, .ref h_images, .int kept, .ref h_tape, .int typed, .ref h_draft, .int atv, .ref h_items, .ref h_moved, .ref h_sizes, .ref h_lanes, .ref h_less, .ref h_aside, .ref h_order], al G h_items 96 f_9, ai G h_sizes 4 sizes, ai G h_lanes 4 lanes]) [1, 0, 2, 3] rfl
        have hD9 := hD.sub (ws' := [oc h 9 [.ref h_s, .ref h_images, .int kept, .ref h_tape, .int typed, .ref h_draft, .int atv, .ref h_items, .ref h_moved, .ref h_sizes, .ref h_lanes, .ref h_less, .ref h_aside, .ref h_order], al G h_items 96 f_9, ai G h_sizes 4 sizes, ai G h_lanes 4 lanes]) [1, 0, 2, 3] (by decide) rfl
        exact W.iret (v := (1 : Int32)) hx hb hr (fun t ht hW => ⟨⟨(1 : Int32), f_9, rfl, hw, by rw [ht]; exact hP9, hD9⟩, hS.F ht⟩) hS.2.2 dX9_item_54
      · replace hw := hw.2 c_6
        refine lv_iload hx hb dX9_item_33 (lv_at hl 0 rfl) ?_
        have hP9 := hP.sub (ws' := [oc h 9 [.ref h_s, .ref h_images, .int kept, .ref h_tape, .int typed, .ref h_draft, .int atv, .ref h_items, .ref h_moved, .ref h_sizes, .ref h_lanes, .ref h_less, .ref h_aside, .ref h_order], al G h_items 96 items, ai G h_sizes 4 sizes, ai G h_lanes 4 lanes]) [1, 0, 2, 3] rfl
        have hD9 := hD.sub (ws' := [oc h 9 [.ref h_s, .ref h_images, .int kept, .ref h_tape, .int typed, .ref h_draft, .int atv, .ref h_items, .ref h_moved, .ref h_sizes, .ref h_lanes, .ref h_less, .ref h_aside, .ref h_order], al G h_items 96 items, ai G h_sizes 4 sizes, ai G h_lanes 4 lanes]) [1, 0, 2, 3] (by decide) rfl
        exact W.iret (v := r_5) hx hb hr (fun t ht hW => ⟨⟨r_5, items, rfl, hw, by rw [ht]; exact hP9, hD9⟩, hS.F ht⟩) hS.2.2 dX9_item_35
    · replace hw := hw.2 c_4
      refine lv_iconst (v := (-1 : Int32)) hx hb dX9_item_16 (by decide) ?_
      have hP9 := hP
      have hD9 := hD
      exact W.iret (v := (-1 : Int32)) hx hb hr (fun t ht hW => ⟨⟨(-1 : Int32), items, rfl, hw, by rw [ht]; exact hP9, hD9⟩, hS.F ht⟩) hS.2.2 dX9_item_17
/-! BattleBenchModel.copy(IIIII)I -/
def wp_X9_copy_133 (sizes : Nat → Int32) (lanes : Nat → Int32) (p1 : Int32) (p2 : Int32) (p3 : Int32) (p4 : Int32) (p5 : Int32) (Q : Int32 → ((Nat → Int64) × (Nat → Int64)) → Prop)  : Nat → (Nat → Int64) → (Nat → Int64) → Int32 → Prop
  | 0, _, _, _ => False
  | n + 1, items, moved, x8 =>
    (((p5 ≤ x8) → Q p5 (items, moved)) ∧ (¬ (p5 ≤ x8) → (vp_in x8 24 ∧ (∀ v_3 : Int64, v_3 = (moved x8.toNatClampNeg) → (vp_in ((((24 : Int32) * p3) + p4) + x8) 96 ∧ ∀ f_5 : Nat → Int64, f_5 = vp_updL items (((((24 : Int32) * p3) + p4) + x8)).toNatClampNeg v_3 → wp_X9_copy_133 sizes lanes p1 p2 p3 p4 p5 Q  n f_5 moved (x8 + (1 : Int32)))))))
set_option maxHeartbeats 4000000 in
theorem wk_X9_copy_133 {p : Program} {l : Launch} {e : Env} {s : State} {m : MethodId} {below : List Frame} {meth : Method} {c : Code} {args : Array Value} {G : GT} {A : Nat → Prop} (h h_s h_images h_tape h_draft h_items h_moved h_sizes h_lanes h_less h_aside h_order : Nat) (kept : Int32) (typed : Int32) (atv : Int32) (sizes : Nat → Int32) (lanes : Nat → Int32) (p1 : Int32) (p2 : Int32) (p3 : Int32) (p4 : Int32) (p5 : Int32) (Q : Int32 → ((Nat → Int64) × (Nat → Int64)) → Prop)  (C : Cx p s m meth c cX9_copy 9 (some .int) RX9 args G A)  :
    ∀ (n : Nat), ∀  (items : Nat → Int64) (moved : Nat → Int64) (x8 : Int32) (H : Heap) (locs : List Loc), va_P G.1 gCl [oc h 9 [.ref h_s, .ref h_images, .int kept, .ref h_tape, .int typed, .ref h_draft, .int atv, .ref h_items, .ref h_moved, .ref h_sizes, .ref h_lanes, .ref h_less, .ref h_aside, .ref h_order], al G h_items 96 items, al G h_moved 24 moved, ai G h_sizes 4 sizes, ai G h_lanes 4 lanes] H → va_D A [oc h 9 [.ref h_s, .ref h_images, .int kept, .ref h_tape, .int typed, .ref h_draft, .int atv, .ref h_items, .ref h_moved, .ref h_sizes, .ref h_lanes, .ref h_less, .ref h_aside, .ref h_order], al G h_items 96 items, al G h_moved 24 moved, ai G h_sizes 4 sizes, ai G h_lanes 4 lanes] → va_S A s.heap H locs → ∀ (ls : Array Slot), lv_has ls 9 [(0, .ref h), (3, .int p3), (4, .int p4), (5, .int p5), (8, .int x8)] → wp_X9_copy_133 sizes lanes p1 p2 p3 p4 p5 Q  n items moved x8 → W p l e ({ frames := 2, cells := 0, slots := 0, locals := 42 } : Room) s m args below meth c H locs 0 0 (MQ below (va_Qi (fun (r : Int32) (u : (Nat → Int64) × (Nat → Int64)) => Q r u) (fun u t => va_P G.1 gCl [oc h 9 [.ref h_s, .ref h_images, .int kept, .ref h_tape, .int typed, .ref h_draft, .int atv, .ref h_items, .ref h_moved, .ref h_sizes, .ref h_lanes, .ref h_less, .ref h_aside, .ref h_order], al G h_items 96 u.1, al G h_moved 24 u.2, ai G h_sizes 4 sizes, ai G h_lanes 4 lanes] t.heap ∧ va_D A [oc h 9 [.ref h_s, .ref h_images, .int kept, .ref h_tape, .int typed, .ref h_draft, .int atv, .ref h_items, .ref h_moved, .ref h_sizes, .ref h_lanes, .ref h_less, .ref h_aside, .ref h_order], al G h_items 96 u.1, al G h_moved 24 u.2, ai G h_sizes 4 sizes, ai G h_lanes 4 lanes]) A) args s 0 0 A) (F0 m 133 ls []) := by
  have C9 := C
  obtain ⟨hx, hb, hr, hlocks, hml, hown, hts, hK, hA⟩ := C9
  intro n
  induction n with
  | zero => intro items moved x8 H locs hP hD hS ls hl hw; exact False.elim hw
  | succ n ih =>
    intro items moved x8 H locs hP hD hS ls hl hw
    unfold wp_X9_copy_133 at hw
    refine lv_iload hx hb dX9_copy_133 (lv_at hl 4 rfl) ?_
    refine lv_iload hx hb dX9_copy_135 (lv_at hl 3 rfl) ?_
    refine lv_icmp_ge (tgt := 168) hx hb dX9_copy_137 (by decide) (fun c_1 => ?_) (fun c_1 => ?_)
    · replace hw := hw.1 c_1
      refine lv_iload hx hb dX9_copy_168 (lv_at hl 3 rfl) ?_
      have hP9 := hP
      have hD9 := hD
      exact W.iret (v := p5) hx hb hr (fun t ht hW => ⟨⟨p5, (items, moved), rfl, hw, by rw [ht]; exact hP9, hD9⟩, hS.F ht⟩) hS.2.2 dX9_copy_170
    · replace hw := hw.2 c_1
      refine lv_aload_n hx hb dX9_copy_140 rfl (lv_at hl 0 rfl) ?_
      refine va_get (D := G.1) (ci := 9) (v := .ref h_items) (C := RX9) (T := TX9) (N := 14) hx hb hts in_X9 hown hK.1 hP 0 rfl rfl 7 (by decide) (hts _ q824) (fun _ h9 => h9) rfl dX9_copy_141 ?_
      refine lv_bipush (v := (24 : Int32)) hx hb dX9_copy_144 (by decide) ?_
      refine lv_iload_n hx hb dX9_copy_146 rfl (lv_at hl 1 rfl) ?_
      refine lv_imul hx hb dX9_copy_147 ?_
      refine lv_iload hx hb dX9_copy_148 (lv_at hl 2 rfl) ?_
      refine lv_iadd hx hb dX9_copy_150 ?_
      refine lv_iload hx hb dX9_copy_151 (lv_at hl 4 rfl) ?_
      refine lv_iadd hx hb dX9_copy_153 ?_
      refine lv_aload_n hx hb dX9_copy_154 rfl (lv_at hl 0 rfl) ?_
      refine va_get (D := G.1) (ci := 9) (v := .ref h_moved) (C := RX9) (T := TX9) (N := 14) hx hb hts in_X9 hown hK.1 hP 0 rfl rfl 8 (by decide) (hts _ q825) (fun _ h9 => h9) rfl dX9_copy_155 ?_
      refine lv_iload hx hb dX9_copy_158 (lv_at hl 4 rfl) ?_
      obtain ⟨i_2, hw⟩ := hw
      refine z_lald hx hb hK.1 hP 2 1 rfl rfl i_2 dX9_copy_160 (k := x8.toNatClampNeg) rfl ?_
      refine lv_topl (fun v_3 ev_3 => ?_)
      replace hw := hw v_3 ev_3
      obtain ⟨i_4, hw⟩ := hw
      refine z_last hx hb hK.1 hP hD hS 1 1 rfl rfl i_4 dX9_copy_161 (k := (((((24 : Int32) * p3) + p4) + x8)).toNatClampNeg) rfl (fun f_5 ef_5 H locs hP hD hS => ?_)
      replace hw := hw f_5 ef_5
      have hP : va_P G.1 gCl [oc h 9 [.ref h_s, .ref h_images, .int kept, .ref h_tape, .int typed, .ref h_draft, .int atv, .ref h_items, .ref h_moved, .ref h_sizes, .ref h_lanes, .ref h_less, .ref h_aside, .ref h_order], al G h_items 96 f_5, al G h_moved 24 moved, ai G h_sizes 4 sizes, ai G h_lanes 4 lanes] H := hP
      have hD : va_D A [oc h 9 [.ref h_s, .ref h_images, .int kept, .ref h_tape, .int typed, .ref h_draft, .int atv, .ref h_items, .ref h_moved, .ref h_sizes, .ref h_lanes, .ref h_less, .ref h_aside, .ref h_order], al G h_items 96 f_5, al G h_moved 24 moved, ai G h_sizes 4 sizes, ai G h_lanes 4 lanes] := hD
      refine lv_iinc (v := (x8 + (1 : Int32))) (lv' := [(8, .int (x8 + (1 : Int32))), (0, .ref h), (3, .int p3), (4, .int p4), (5, .int p5)]) hx hb dX9_copy_162 hl (k := 4) rfl rfl (by decide) rfl (fun ls hl => ?_)
      refine lv_goto (tgt := 133) hx hb dX9_copy_165 (by decide) ?_
      exact ih f_5 moved (x8 + (1 : Int32)) H locs hP hD hS ls (lv_sub hl [1, 2, 3, 4, 0] rfl) hw
def wp_X9_copy_96 (sizes : Nat → Int32) (lanes : Nat → Int32) (p1 : Int32) (p2 : Int32) (p3 : Int32) (p4 : Int32) (p5 : Int32) (Q : Int32 → ((Nat → Int64) × (Nat → Int64)) → Prop)  : Nat → (Nat → Int64) → (Nat → Int64) → Int32 → Prop
  | 0, _, _, _ => False
  | n + 1, items, moved, x8 =>
    (((p5 ≤ x8) → (∃ j_ : Nat, wp_X9_copy_133 sizes lanes p1 p2 p3 p4 p5 Q  j_ items moved (0 : Int32))) ∧ (¬ (p5 ≤ x8) → (vp_in ((((24 : Int32) * p1) + p2) + x8) 96 ∧ (∀ v_3 : Int64, v_3 = (items (((((24 : Int32) * p1) + p2) + x8)).toNatClampNeg) → (vp_in x8 24 ∧ ∀ f_5 : Nat → Int64, f_5 = vp_updL moved x8.toNatClampNeg v_3 → wp_X9_copy_96 sizes lanes p1 p2 p3 p4 p5 Q  n items f_5 (x8 + (1 : Int32)))))))
set_option maxHeartbeats 4000000 in
theorem wk_X9_copy_96 {p : Program} {l : Launch} {e : Env} {s : State} {m : MethodId} {below : List Frame} {meth : Method} {c : Code} {args : Array Value} {G : GT} {A : Nat → Prop} (h h_s h_images h_tape h_draft h_items h_moved h_sizes h_lanes h_less h_aside h_order : Nat) (kept : Int32) (typed : Int32) (atv : Int32) (sizes : Nat → Int32) (lanes : Nat → Int32) (p1 : Int32) (p2 : Int32) (p3 : Int32) (p4 : Int32) (p5 : Int32) (Q : Int32 → ((Nat → Int64) × (Nat → Int64)) → Prop)  (C : Cx p s m meth c cX9_copy 9 (some .int) RX9 args G A)  :
    ∀ (n : Nat), ∀  (items : Nat → Int64) (moved : Nat → Int64) (x8 : Int32) (H : Heap) (locs : List Loc), va_P G.1 gCl [oc h 9 [.ref h_s, .ref h_images, .int kept, .ref h_tape, .int typed, .ref h_draft, .int atv, .ref h_items, .ref h_moved, .ref h_sizes, .ref h_lanes, .ref h_less, .ref h_aside, .ref h_order], al G h_items 96 items, al G h_moved 24 moved, ai G h_sizes 4 sizes, ai G h_lanes 4 lanes] H → va_D A [oc h 9 [.ref h_s, .ref h_images, .int kept, .ref h_tape, .int typed, .ref h_draft, .int atv, .ref h_items, .ref h_moved, .ref h_sizes, .ref h_lanes, .ref h_less, .ref h_aside, .ref h_order], al G h_items 96 items, al G h_moved 24 moved, ai G h_sizes 4 sizes, ai G h_lanes 4 lanes] → va_S A s.heap H locs → ∀ (ls : Array Slot), lv_has ls 9 [(0, .ref h), (1, .int p1), (2, .int p2), (3, .int p3), (4, .int p4), (5, .int p5), (8, .int x8)] → wp_X9_copy_96 sizes lanes p1 p2 p3 p4 p5 Q  n items moved x8 → W p l e ({ frames := 2, cells := 0, slots := 0, locals := 42 } : Room) s m args below meth c H locs 0 0 (MQ below (va_Qi (fun (r : Int32) (u : (Nat → Int64) × (Nat → Int64)) => Q r u) (fun u t => va_P G.1 gCl [oc h 9 [.ref h_s, .ref h_images, .int kept, .ref h_tape, .int typed, .ref h_draft, .int atv, .ref h_items, .ref h_moved, .ref h_sizes, .ref h_lanes, .ref h_less, .ref h_aside, .ref h_order], al G h_items 96 u.1, al G h_moved 24 u.2, ai G h_sizes 4 sizes, ai G h_lanes 4 lanes] t.heap ∧ va_D A [oc h 9 [.ref h_s, .ref h_images, .int kept, .ref h_tape, .int typed, .ref h_draft, .int atv, .ref h_items, .ref h_moved, .ref h_sizes, .ref h_lanes, .ref h_less, .ref h_aside, .ref h_order], al G h_items 96 u.1, al G h_moved 24 u.2, ai G h_sizes 4 sizes, ai G h_lanes 4 lanes]) A) args s 0 0 A) (F0 m 96 ls []) := by
  have C9 := C
  obtain ⟨hx, hb, hr, hlocks, hml, hown, hts, hK, hA⟩ := C9
  intro n
  induction n with
  | zero => intro items moved x8 H locs hP hD hS ls hl hw; exact False.elim hw
  | succ n ih =>
    intro items moved x8 H locs hP hD hS ls hl hw
    unfold wp_X9_copy_96 at hw
    refine lv_iload hx hb dX9_copy_96 (lv_at hl 6 rfl) ?_
    refine lv_iload hx hb dX9_copy_98 (lv_at hl 5 rfl) ?_
    refine lv_icmp_ge (tgt := 130) hx hb dX9_copy_100 (by decide) (fun c_1 => ?_) (fun c_1 => ?_)
    · replace hw := hw.1 c_1
      refine lv_iconst (v := (0 : Int32)) hx hb dX9_copy_130 (by decide) ?_
      refine lv_istore (lv' := [(8, .int (0 : Int32)), (0, .ref h), (1, .int p1), (2, .int p2), (3, .int p3), (4, .int p4), (5, .int p5)]) hx hb dX9_copy_131 hl (by decide) rfl (fun ls hl => ?_)
      obtain ⟨j_, hw⟩ := hw
      exact wk_X9_copy_133 h h_s h_images h_tape h_draft h_items h_moved h_sizes h_lanes h_less h_aside h_order kept typed atv sizes lanes p1 p2 p3 p4 p5  Q  C  j_ items moved (0 : Int32) H locs hP hD hS ls (lv_sub hl [1, 4, 5, 6, 0] rfl) hw
    · replace hw := hw.2 c_1
      refine lv_aload_n hx hb dX9_copy_103 rfl (lv_at hl 0 rfl) ?_
      refine va_get (D := G.1) (ci := 9) (v := .ref h_moved) (C := RX9) (T := TX9) (N := 14) hx hb hts in_X9 hown hK.1 hP 0 rfl rfl 8 (by decide) (hts _ q825) (fun _ h9 => h9) rfl dX9_copy_104 ?_
      refine lv_iload hx hb dX9_copy_107 (lv_at hl 6 rfl) ?_
      refine lv_aload_n hx hb dX9_copy_109 rfl (lv_at hl 0 rfl) ?_
      refine va_get (D := G.1) (ci := 9) (v := .ref h_items) (C := RX9) (T := TX9) (N := 14) hx hb hts in_X9 hown hK.1 hP 0 rfl rfl 7 (by decide) (hts _ q824) (fun _ h9 => h9) rfl dX9_copy_110 ?_
      refine lv_bipush (v := (24 : Int32)) hx hb dX9_copy_113 (by decide) ?_
      refine lv_iload_n hx hb dX9_copy_115 rfl (lv_at hl 1 rfl) ?_
      refine lv_imul hx hb dX9_copy_116 ?_
      refine lv_iload_n hx hb dX9_copy_117 rfl (lv_at hl 2 rfl) ?_
      refine lv_iadd hx hb dX9_copy_118 ?_
      refine lv_iload hx hb dX9_copy_119 (lv_at hl 6 rfl) ?_
      refine lv_iadd hx hb dX9_copy_121 ?_
      obtain ⟨i_2, hw⟩ := hw
      refine z_lald hx hb hK.1 hP 1 1 rfl rfl i_2 dX9_copy_122 (k := (((((24 : Int32) * p1) + p2) + x8)).toNatClampNeg) rfl ?_
      refine lv_topl (fun v_3 ev_3 => ?_)
      replace hw := hw v_3 ev_3
      obtain ⟨i_4, hw⟩ := hw
      refine z_last hx hb hK.1 hP hD hS 2 1 rfl rfl i_4 dX9_copy_123 (k := x8.toNatClampNeg) rfl (fun f_5 ef_5 H locs hP hD hS => ?_)
      replace hw := hw f_5 ef_5
      have hP : va_P G.1 gCl [oc h 9 [.ref h_s, .ref h_images, .int kept, .ref h_tape, .int typed, .ref h_draft, .int atv, .ref h_items, .ref h_moved, .ref h_sizes, .ref h_lanes, .ref h_less, .ref h_aside, .ref h_order], al G h_items 96 items, al G h_moved 24 f_5, ai G h_sizes 4 sizes, ai G h_lanes 4 lanes] H := hP
      have hD : va_D A [oc h 9 [.ref h_s, .ref h_images, .int kept, .ref h_tape, .int typed, .ref h_draft, .int atv, .ref h_items, .ref h_moved, .ref h_sizes, .ref h_lanes, .ref h_less, .ref h_aside, .ref h_order], al G h_items 96 items, al G h_moved 24 f_5, ai G h_sizes 4 sizes, ai G h_lanes 4 lanes] := hD
      refine lv_iinc (v := (x8 + (1 : Int32))) (lv' := [(8, .int (x8 + (1 : Int32))), (0, .ref h), (1, .int p1), (2, .int p2), (3, .int p3), (4, .int p4), (5, .int p5)]) hx hb dX9_copy_124 hl (k := 6) rfl rfl (by decide) rfl (fun ls hl => ?_)
      refine lv_goto (tgt := 96) hx hb dX9_copy_127 (by decide) ?_
      exact ih items f_5 (x8 + (1 : Int32)) H locs hP hD hS ls (lv_sub hl [1, 2, 3, 4, 5, 6, 0] rfl) hw
def wp_X9_copy (items : Nat → Int64) (moved : Nat → Int64) (sizes : Nat → Int32) (lanes : Nat → Int32) (p1 : Int32) (p2 : Int32) (p3 : Int32) (p4 : Int32) (p5 : Int32) (Q : Int32 → ((Nat → Int64) × (Nat → Int64)) → Prop) : Prop :=
  wp_X9_isSheet  p1 (fun r_1 => (((r_1 = 0) → Q (-1 : Int32) (items, moved)) ∧ (¬ (r_1 = 0) → wp_X9_isSheet  p3 (fun r_3 => ((¬ (r_3 = 0) → (vp_in p1 4 ∧ ((((sizes p1.toNatClampNeg) < 0) → Q (-11 : Int32) (items, moved)) ∧ (¬ ((sizes p1.toNatClampNeg) < 0) → (vp_in p3 4 ∧ (((0 ≤ (sizes p3.toNatClampNeg)) → (vp_in p3 4 ∧ wp_X9_barred sizes lanes p1 (lanes p3.toNatClampNeg) p2 p5 (fun r_10 => (vp_in p3 4 ∧ wp_X9_barred sizes lanes p3 (lanes p3.toNatClampNeg) p4 p5 (fun r_12 => ((¬ (r_10 = 0) → (((r_10 = 0) → Q r_12 (items, moved)) ∧ (¬ (r_10 = 0) → Q r_10 (items, moved)))) ∧ ((r_10 = 0) → (((r_12 = 0) → (∃ j_ : Nat, wp_X9_copy_96 sizes lanes p1 p2 p3 p4 p5 Q  j_ items moved (0 : Int32))) ∧ (¬ (r_12 = 0) → (((r_10 = 0) → Q r_12 (items, moved)) ∧ (¬ (r_10 = 0) → Q r_10 (items, moved)))))))))))) ∧ (¬ (0 ≤ (sizes p3.toNatClampNeg)) → Q (-11 : Int32) (items, moved)))))))) ∧ ((r_3 = 0) → Q (-1 : Int32) (items, moved)))))))
set_option maxHeartbeats 4000000 in
theorem mt_X9_copy (l : Launch) (G : GT) (h h_s h_images h_tape h_draft h_items h_moved h_sizes h_lanes h_less h_aside h_order : Nat) (sz : Nat) (kept : Int32) (typed : Int32) (atv : Int32) (items : Nat → Int64) (moved : Nat → Int64) (sizes : Nat → Int32) (lanes : Nat → Int32) (p1 : Int32) (p2 : Int32) (p3 : Int32) (p4 : Int32) (p5 : Int32) (Q : Int32 → ((Nat → Int64) × (Nat → Int64)) → Prop) (hw : wp_X9_copy items moved sizes lanes p1 p2 p3 p4 p5 Q) : Met l yX9_copy (ws_ yX9_copy cX9_copy 9 (some .int)) ({ frames := 2, cells := 0, slots := 0, locals := 42 } : Room) (va_Pc [.ref h, .int p1, .int p2, .int p3, .int p4, .int p5] (fun U => U.heap.size = sz ∧ va_P G.1 gCl [oc h 9 [.ref h_s, .ref h_images, .int kept, .ref h_tape, .int typed, .ref h_draft, .int atv, .ref h_items, .ref h_moved, .ref h_sizes, .ref h_lanes, .ref h_less, .ref h_aside, .ref h_order], al G h_items 96 items, al G h_moved 24 moved, ai G h_sizes 4 sizes, ai G h_lanes 4 lanes] U.heap ∧ gK G U ∧ va_D (fun _ => True) [oc h 9 [.ref h_s, .ref h_images, .int kept, .ref h_tape, .int typed, .ref h_draft, .int atv, .ref h_items, .ref h_moved, .ref h_sizes, .ref h_lanes, .ref h_less, .ref h_aside, .ref h_order], al G h_items 96 items, al G h_moved 24 moved, ai G h_sizes 4 sizes, ai G h_lanes 4 lanes])) ((fun A => (va_Qi (fun (r : Int32) (u : (Nat → Int64) × (Nat → Int64)) => Q r u) (fun u t => va_P G.1 gCl [oc h 9 [.ref h_s, .ref h_images, .int kept, .ref h_tape, .int typed, .ref h_draft, .int atv, .ref h_items, .ref h_moved, .ref h_sizes, .ref h_lanes, .ref h_less, .ref h_aside, .ref h_order], al G h_items 96 u.1, al G h_moved 24 u.2, ai G h_sizes 4 sizes, ai G h_lanes 4 lanes] t.heap ∧ va_D A [oc h 9 [.ref h_s, .ref h_images, .int kept, .ref h_tape, .int typed, .ref h_draft, .int atv, .ref h_items, .ref h_moved, .ref h_sizes, .ref h_lanes, .ref h_less, .ref h_aside, .ref h_order], al G h_items 96 u.1, al G h_moved 24 u.2, ai G h_sizes 4 sizes, ai G h_lanes 4 lanes]) A)) (va_A [oc h 9 [.ref h_s, .ref h_images, .int kept, .ref h_tape, .int typed, .ref h_draft, .int atv, .ref h_items, .ref h_moved, .ref h_sizes, .ref h_lanes, .ref h_less, .ref h_aside, .ref h_order], al G h_items 96 items, al G h_moved 24 moved, ai G h_sizes 4 sizes, ai G h_lanes 4 lanes] sz)) 0 0 (va_A [oc h 9 [.ref h_s, .ref h_images, .int kept, .ref h_tape, .int typed, .ref h_draft, .int atv, .ref h_items, .ref h_moved, .ref h_sizes, .ref h_lanes, .ref h_less, .ref h_aside, .ref h_order], al G h_items 96 items, al G h_moved 24 moved, ai G h_sizes 4 sizes, ai G h_lanes 4 lanes] sz) := by
  refine Met.ofW (cc := cX9_copy) (maxL := 9) (ret := (some .int)) (by decide) rfl ?_
  intro p e s m args below meth c s₁ B hml hv
  obtain ⟨rfl, hsz, hP, hK, hD0⟩ := hv
  have hx := B.exec
  have hb := B.bytes
  have hr := B.returns
  have hts := atoms_spec (ws := (ws_ yX9_copy cX9_copy 9 (some .int))) B.pre
  have hts : ∀ w ∈ lw_all, w.before _ s = true := fun w h => hts w (List.mem_cons_of_mem _ h)
  have hown : s.vm.findClass RX9 = some m.cls := findClass_of_methodNamed B.named
  have hlocks := B.notSynchronized
  subst hsz
  have hD := hD0.self (sz := s.heap.size)
  generalize hAe : va_A [oc h 9 [.ref h_s, .ref h_images, .int kept, .ref h_tape, .int typed, .ref h_draft, .int atv, .ref h_items, .ref h_moved, .ref h_sizes, .ref h_lanes, .ref h_less, .ref h_aside, .ref h_order], al G h_items 96 items, al G h_moved 24 moved, ai G h_sizes 4 sizes, ai G h_lanes 4 lanes] s.heap.size = A at hD ⊢
  have hA : ∀ q : Nat, s.heap.size ≤ q → A q := fun q h => by rw [← hAe]; exact Or.inr h
  have hS : va_S A s.heap s.heap [] := va_S.rf
  have C : Cx p s m meth c cX9_copy 9 (some .int) RX9 ([.ref h, .int p1, .int p2, .int p3, .int p4, .int p5] : List Value).toArray G A := ⟨hx, hb, hr, hlocks, hml, hown, hts, hK, hA⟩
  have hl := lv_entry ([.ref h, .int p1, .int p2, .int p3, .int p4, .int p5]) (n := 9) (Nat.le_of_ble_eq_true rfl)
  rw [lg_entry_eq]
  generalize (lg_sl ([.ref h, .int p1, .int p2, .int p3, .int p4, .int p5]) ++ List.replicate (9 - (lg_sl ([.ref h, .int p1, .int p2, .int p3, .int p4, .int p5])).length) Slot.unset).toArray = ls at hl ⊢
  have hl : lv_has ls 9 [(0, .ref h), (1, .int p1), (2, .int p2), (3, .int p3), (4, .int p4), (5, .int p5)] := hl
  unfold wp_X9_copy at hw
  refine lv_iload_n hx hb dX9_copy_0 rfl (lv_at hl 1 rfl) ?_
  have hPc := hP.sub (ws' := []) [] rfl
  have hDc := hD.sub (ws' := []) [] (by decide) rfl
  have hFc := va_free (wc := []) hD hS hA [] rfl
  refine va_calli (va_runS (As := [.int p1]) (rest := []) ⟨hx, hb, hml, hown, hts⟩ (mt_X9_isSheet l G  s.heap.size  p1 _ hw) (va_cwS 1 hts (lw_S q1089 q1090 q65 q1091) rfl rfl rfl (by decide +kernel) ⟨Nat.le_of_ble_eq_true rfl, Nat.le_of_ble_eq_true rfl⟩) ⟨fun a U g mk q => by obtain ⟨q0, q1, qP, qK, qD⟩ := q; exact ⟨q0, q1, qP, qK.call, qD⟩, fun U hU hW => ⟨rfl, by rw [hU], by rw [hU]; exact hPc, hK.warm hW, hDc.weaken (fun _ _ _ _ => trivial)⟩⟩ rfl rfl hl.1 rfl (lv_room (Nat.le_of_ble_eq_true rfl)) dX9_copy_1 ⟨Nat.le_of_ble_eq_true rfl, Nat.le_of_ble_eq_true rfl⟩) hS (fun q _ h => hFc q h) hFc (fun r_1 _ t H1 locs ht hvm hw hB hz1 hk1 hS => ?_)
  obtain ⟨hP1, hD1⟩ := hB
  rw [ht] at hP1
  obtain ⟨hP, hD⟩ := va_join (wr := [oc h 9 [.ref h_s, .ref h_images, .int kept, .ref h_tape, .int typed, .ref h_draft, .int atv, .ref h_items, .ref h_moved, .ref h_sizes, .ref h_lanes, .ref h_less, .ref h_aside, .ref h_order], al G h_items 96 items, al G h_moved 24 moved, ai G h_sizes 4 sizes, ai G h_lanes 4 lanes]) (w1 := []) hP hD [] [0, 1, 2, 3, 4] rfl rfl (by decide) (by decide) hk1 hFc hP1 hD1
  clear hPc hDc hFc hP1 hD1 hz1 hk1 hvm
  generalize H1 = H at hP hS ⊢
  have hP : va_P G.1 gCl [oc h 9 [.ref h_s, .ref h_images, .int kept, .ref h_tape, .int typed, .ref h_draft, .int atv, .ref h_items, .ref h_moved, .ref h_sizes, .ref h_lanes, .ref h_less, .ref h_aside, .ref h_order], al G h_items 96 items, al G h_moved 24 moved, ai G h_sizes 4 sizes, ai G h_lanes 4 lanes] H := hP
  have hD : va_D A [oc h 9 [.ref h_s, .ref h_images, .int kept, .ref h_tape, .int typed, .ref h_draft, .int atv, .ref h_items, .ref h_moved, .ref h_sizes, .ref h_lanes, .ref h_less, .ref h_aside, .ref h_order], al G h_items 96 items, al G h_moved 24 moved, ai G h_sizes 4 sizes, ai G h_lanes 4 lanes] := hD
  refine lv_if_eq (tgt := 14) hx hb dX9_copy_4 (by decide) (fun c_2 => ?_) (fun c_2 => ?_)
  · replace hw := hw.1 c_2
    refine lv_iconst (v := (-1 : Int32)) hx hb dX9_copy_14 (by decide) ?_
    have hP9 := hP
    have hD9 := hD
    exact W.iret (v := (-1 : Int32)) hx hb hr (fun t ht hW => ⟨⟨(-1 : Int32), (items, moved), rfl, hw, by rw [ht]; exact hP9, hD9⟩, hS.F ht⟩) hS.2.2 dX9_copy_15
  · replace hw := hw.2 c_2
    refine lv_iload_n hx hb dX9_copy_7 rfl (lv_at hl 3 rfl) ?_
    have hPc := hP.sub (ws' := []) [] rfl
    have hDc := hD.sub (ws' := []) [] (by decide) rfl
    have hFc := va_free (wc := []) hD hS hA [] rfl
    refine va_calli (va_runS (As := [.int p3]) (rest := []) ⟨hx, hb, hml, hown, hts⟩ (mt_X9_isSheet l G  H.size  p3 _ hw) (va_cwS 1 hts (lw_S q1089 q1090 q65 q1091) rfl rfl rfl (by decide +kernel) ⟨Nat.le_of_ble_eq_true rfl, Nat.le_of_ble_eq_true rfl⟩) ⟨fun a U g mk q => by obtain ⟨q0, q1, qP, qK, qD⟩ := q; exact ⟨q0, q1, qP, qK.call, qD⟩, fun U hU hW => ⟨rfl, by rw [hU], by rw [hU]; exact hPc, hK.warm hW, hDc.weaken (fun _ _ _ _ => trivial)⟩⟩ rfl rfl hl.1 rfl (lv_room (Nat.le_of_ble_eq_true rfl)) dX9_copy_8 ⟨Nat.le_of_ble_eq_true rfl, Nat.le_of_ble_eq_true rfl⟩) hS (fun q _ h => hFc q h) hFc (fun r_3 _ t H1 locs ht hvm hw hB hz1 hk1 hS => ?_)
    obtain ⟨hP1, hD1⟩ := hB
    rw [ht] at hP1
    obtain ⟨hP, hD⟩ := va_join (wr := [oc h 9 [.ref h_s, .ref h_images, .int kept, .ref h_tape, .int typed, .ref h_draft, .int atv, .ref h_items, .ref h_moved, .ref h_sizes, .ref h_lanes, .ref h_less, .ref h_aside, .ref h_order], al G h_items 96 items, al G h_moved 24 moved, ai G h_sizes 4 sizes, ai G h_lanes 4 lanes]) (w1 := []) hP hD [] [0, 1, 2, 3, 4] rfl rfl (by decide) (by decide) hk1 hFc hP1 hD1
    clear hPc hDc hFc hP1 hD1 hz1 hk1 hvm
    generalize H1 = H at hP hS ⊢
    have hP : va_P G.1 gCl [oc h 9 [.ref h_s, .ref h_images, .int kept, .ref h_tape, .int typed, .ref h_draft, .int atv, .ref h_items, .ref h_moved, .ref h_sizes, .ref h_lanes, .ref h_less, .ref h_aside, .ref h_order], al G h_items 96 items, al G h_moved 24 moved, ai G h_sizes 4 sizes, ai G h_lanes 4 lanes] H := hP
    have hD : va_D A [oc h 9 [.ref h_s, .ref h_images, .int kept, .ref h_tape, .int typed, .ref h_draft, .int atv, .ref h_items, .ref h_moved, .ref h_sizes, .ref h_lanes, .ref h_less, .ref h_aside, .ref h_order], al G h_items 96 items, al G h_moved 24 moved, ai G h_sizes 4 sizes, ai G h_lanes 4 lanes] := hD
    refine lv_if_ne (tgt := 16) hx hb dX9_copy_11 (by decide) (fun c_4 => ?_) (fun c_4 => ?_)
    · replace hw := hw.1 c_4
      refine lv_aload_n hx hb dX9_copy_16 rfl (lv_at hl 0 rfl) ?_
      refine va_get (D := G.1) (ci := 9) (v := .ref h_sizes) (C := RX9) (T := TX9) (N := 14) hx hb hts in_X9 hown hK.1 hP 0 rfl rfl 9 (by decide) (hts _ q826) (fun _ h9 => h9) rfl dX9_copy_17 ?_
      refine lv_iload_n hx hb dX9_copy_20 rfl (lv_at hl 1 rfl) ?_
      obtain ⟨i_5, hw⟩ := hw
      refine z_iald hx hb hK.1 hP 3 0 rfl rfl i_5 dX9_copy_21 (k := p1.toNatClampNeg) rfl ?_
      refine lv_if_lt (tgt := 34) hx hb dX9_copy_22 (by decide) (fun c_6 => ?_) (fun c_6 => ?_)
      · replace hw := hw.1 c_6
        refine lv_bipush (v := (-11 : Int32)) hx hb dX9_copy_34 (by decide) ?_
        have hP9 := hP
        have hD9 := hD
        exact W.iret (v := (-11 : Int32)) hx hb hr (fun t ht hW => ⟨⟨(-11 : Int32), (items, moved), rfl, hw, by rw [ht]; exact hP9, hD9⟩, hS.F ht⟩) hS.2.2 dX9_copy_36
      · replace hw := hw.2 c_6
        refine lv_aload_n hx hb dX9_copy_25 rfl (lv_at hl 0 rfl) ?_
        refine va_get (D := G.1) (ci := 9) (v := .ref h_sizes) (C := RX9) (T := TX9) (N := 14) hx hb hts in_X9 hown hK.1 hP 0 rfl rfl 9 (by decide) (hts _ q826) (fun _ h9 => h9) rfl dX9_copy_26 ?_
        refine lv_iload_n hx hb dX9_copy_29 rfl (lv_at hl 3 rfl) ?_
        obtain ⟨i_7, hw⟩ := hw
        refine z_iald hx hb hK.1 hP 3 0 rfl rfl i_7 dX9_copy_30 (k := p3.toNatClampNeg) rfl ?_
        refine lv_if_ge (tgt := 37) hx hb dX9_copy_31 (by decide) (fun c_8 => ?_) (fun c_8 => ?_)
        · replace hw := hw.1 c_8
          refine lv_aload_n hx hb dX9_copy_37 rfl (lv_at hl 0 rfl) ?_
          refine lv_iload_n hx hb dX9_copy_38 rfl (lv_at hl 1 rfl) ?_
          refine lv_aload_n hx hb dX9_copy_39 rfl (lv_at hl 0 rfl) ?_
          refine va_get (D := G.1) (ci := 9) (v := .ref h_lanes) (C := RX9) (T := TX9) (N := 14) hx hb hts in_X9 hown hK.1 hP 0 rfl rfl 10 (by decide) (hts _ q827) (fun _ h9 => h9) rfl dX9_copy_40 ?_
          refine lv_iload_n hx hb dX9_copy_43 rfl (lv_at hl 3 rfl) ?_
          obtain ⟨i_9, hw⟩ := hw
          refine z_iald hx hb hK.1 hP 4 0 rfl rfl i_9 dX9_copy_44 (k := p3.toNatClampNeg) rfl ?_
          refine lv_iload_n hx hb dX9_copy_45 rfl (lv_at hl 2 rfl) ?_
          refine lv_iload hx hb dX9_copy_46 (lv_at hl 5 rfl) ?_
          have hPc := hP.sub (ws' := [oc h 9 [.ref h_s, .ref h_images, .int kept, .ref h_tape, .int typed, .ref h_draft, .int atv, .ref h_items, .ref h_moved, .ref h_sizes, .ref h_lanes, .ref h_less, .ref h_aside, .ref h_order], ai G h_sizes 4 sizes, ai G h_lanes 4 lanes]) [0, 3, 4] rfl
          have hDc := hD.sub (ws' := [oc h 9 [.ref h_s, .ref h_images, .int kept, .ref h_tape, .int typed, .ref h_draft, .int atv, .ref h_items, .ref h_moved, .ref h_sizes, .ref h_lanes, .ref h_less, .ref h_aside, .ref h_order], ai G h_sizes 4 sizes, ai G h_lanes 4 lanes]) [0, 3, 4] (by decide) rfl
          have hFc := va_free (wc := [oc h 9 [.ref h_s, .ref h_images, .int kept, .ref h_tape, .int typed, .ref h_draft, .int atv, .ref h_items, .ref h_moved, .ref h_sizes, .ref h_lanes, .ref h_less, .ref h_aside, .ref h_order], ai G h_sizes 4 sizes, ai G h_lanes 4 lanes]) hD hS hA [0, 3, 4] rfl
          refine va_calli (va_runV (As := [.int p1, .int (lanes p3.toNatClampNeg), .int p2, .int p5]) (rest := []) ⟨hx, hb, hml, hown, hts⟩ (mt_X9_barred l G h h_s h_images h_tape h_draft h_items h_moved h_sizes h_lanes h_less h_aside h_order H.size kept typed atv sizes lanes p1 (lanes p3.toNatClampNeg) p2 p5 _ hw) (cwV 4 hts (lw_V q1092 q1094 qs51 q65 q1095) rfl rfl rfl (by decide +kernel) ⟨Nat.le_of_ble_eq_true rfl, Nat.le_of_ble_eq_true rfl⟩) ⟨fun a U g mk q => by obtain ⟨q0, q1, qP, qK, qD⟩ := q; exact ⟨q0, q1, qP, qK.call, qD⟩, va_recv hK.1 hP (ci := 9) (q0 := 0) rfl rfl, fun U hU hW => ⟨rfl, by rw [hU], by rw [hU]; exact hPc, hK.warm hW, hDc.weaken (fun _ _ _ _ => trivial)⟩⟩ rfl rfl hl.1 rfl (lv_room (Nat.le_of_ble_eq_true rfl)) dX9_copy_48 ⟨Nat.le_of_ble_eq_true rfl, Nat.le_of_ble_eq_true rfl⟩) hS (fun q _ h => hFc q h) hFc (fun r_10 _ t H1 locs ht hvm hw hB hz1 hk1 hS => ?_)
          obtain ⟨hP1, hD1⟩ := hB
          rw [ht] at hP1
          obtain ⟨hP, hD⟩ := va_join (wr := [al G h_items 96 items, al G h_moved 24 moved]) (w1 := [oc h 9 [.ref h_s, .ref h_images, .int kept, .ref h_tape, .int typed, .ref h_draft, .int atv, .ref h_items, .ref h_moved, .ref h_sizes, .ref h_lanes, .ref h_less, .ref h_aside, .ref h_order], ai G h_sizes 4 sizes, ai G h_lanes 4 lanes]) hP hD [0, 3, 4] [1, 2] rfl rfl (by decide) (by decide) hk1 hFc hP1 hD1
          clear hPc hDc hFc hP1 hD1 hz1 hk1 hvm
          generalize H1 = H at hP hS ⊢
          have hP : va_P G.1 gCl [al G h_items 96 items, al G h_moved 24 moved, oc h 9 [.ref h_s, .ref h_images, .int kept, .ref h_tape, .int typed, .ref h_draft, .int atv, .ref h_items, .ref h_moved, .ref h_sizes, .ref h_lanes, .ref h_less, .ref h_aside, .ref h_order], ai G h_sizes 4 sizes, ai G h_lanes 4 lanes] H := hP
          have hD : va_D A [al G h_items 96 items, al G h_moved 24 moved, oc h 9 [.ref h_s, .ref h_images, .int kept, .ref h_tape, .int typed, .ref h_draft, .int atv, .ref h_items, .ref h_moved, .ref h_sizes, .ref h_lanes, .ref h_less, .ref h_aside, .ref h_order], ai G h_sizes 4 sizes, ai G h_lanes 4 lanes] := hD
          refine lv_istore (lv' := [(6, .int r_10), (0, .ref h), (1, .int p1), (2, .int p2), (3, .int p3), (4, .int p4), (5, .int p5)]) hx hb dX9_copy_51 hl (by decide) rfl (fun ls hl => ?_)
          refine lv_aload_n hx hb dX9_copy_53 rfl (lv_at hl 1 rfl) ?_
          refine lv_iload_n hx hb dX9_copy_54 rfl (lv_at hl 4 rfl) ?_
          refine lv_aload_n hx hb dX9_copy_55 rfl (lv_at hl 1 rfl) ?_
          refine va_get (D := G.1) (ci := 9) (v := .ref h_lanes) (C := RX9) (T := TX9) (N := 14) hx hb hts in_X9 hown hK.1 hP 2 rfl rfl 10 (by decide) (hts _ q827) (fun _ h9 => h9) rfl dX9_copy_56 ?_
          refine lv_iload_n hx hb dX9_copy_59 rfl (lv_at hl 4 rfl) ?_
          obtain ⟨i_11, hw⟩ := hw
          refine z_iald hx hb hK.1 hP 4 0 rfl rfl i_11 dX9_copy_60 (k := p3.toNatClampNeg) rfl ?_
          refine lv_iload hx hb dX9_copy_61 (lv_at hl 5 rfl) ?_
          refine lv_iload hx hb dX9_copy_63 (lv_at hl 6 rfl) ?_
          have hPc := hP.sub (ws' := [oc h 9 [.ref h_s, .ref h_images, .int kept, .ref h_tape, .int typed, .ref h_draft, .int atv, .ref h_items, .ref h_moved, .ref h_sizes, .ref h_lanes, .ref h_less, .ref h_aside, .ref h_order], ai G h_sizes 4 sizes, ai G h_lanes 4 lanes]) [2, 3, 4] rfl
          have hDc := hD.sub (ws' := [oc h 9 [.ref h_s, .ref h_images, .int kept, .ref h_tape, .int typed, .ref h_draft, .int atv, .ref h_items, .ref h_moved, .ref h_sizes, .ref h_lanes, .ref h_less, .ref h_aside, .ref h_order], ai G h_sizes 4 sizes, ai G h_lanes 4 lanes]) [2, 3, 4] (by decide) rfl
          have hFc := va_free (wc := [oc h 9 [.ref h_s, .ref h_images, .int kept, .ref h_tape, .int typed, .ref h_draft, .int atv, .ref h_items, .ref h_moved, .ref h_sizes, .ref h_lanes, .ref h_less, .ref h_aside, .ref h_order], ai G h_sizes 4 sizes, ai G h_lanes 4 lanes]) hD hS hA [2, 3, 4] rfl
          refine va_calli (va_runV (As := [.int p3, .int (lanes p3.toNatClampNeg), .int p4, .int p5]) (rest := []) ⟨hx, hb, hml, hown, hts⟩ (mt_X9_barred l G h h_s h_images h_tape h_draft h_items h_moved h_sizes h_lanes h_less h_aside h_order H.size kept typed atv sizes lanes p3 (lanes p3.toNatClampNeg) p4 p5 _ hw) (cwV 4 hts (lw_V q1092 q1094 qs51 q65 q1095) rfl rfl rfl (by decide +kernel) ⟨Nat.le_of_ble_eq_true rfl, Nat.le_of_ble_eq_true rfl⟩) ⟨fun a U g mk q => by obtain ⟨q0, q1, qP, qK, qD⟩ := q; exact ⟨q0, q1, qP, qK.call, qD⟩, va_recv hK.1 hP (ci := 9) (q0 := 2) rfl rfl, fun U hU hW => ⟨rfl, by rw [hU], by rw [hU]; exact hPc, hK.warm hW, hDc.weaken (fun _ _ _ _ => trivial)⟩⟩ rfl rfl hl.1 rfl (lv_room (Nat.le_of_ble_eq_true rfl)) dX9_copy_65 ⟨Nat.le_of_ble_eq_true rfl, Nat.le_of_ble_eq_true rfl⟩) hS (fun q _ h => hFc q h) hFc (fun r_12 _ t H1 locs ht hvm hw hB hz1 hk1 hS => ?_)
          obtain ⟨hP1, hD1⟩ := hB
          rw [ht] at hP1
          obtain ⟨hP, hD⟩ := va_join (wr := [al G h_items 96 items, al G h_moved 24 moved]) (w1 := [oc h 9 [.ref h_s, .ref h_images, .int kept, .ref h_tape, .int typed, .ref h_draft, .int atv, .ref h_items, .ref h_moved, .ref h_sizes, .ref h_lanes, .ref h_less, .ref h_aside, .ref h_order], ai G h_sizes 4 sizes, ai G h_lanes 4 lanes]) hP hD [2, 3, 4] [0, 1] rfl rfl (by decide) (by decide) hk1 hFc hP1 hD1
          clear hPc hDc hFc hP1 hD1 hz1 hk1 hvm
          generalize H1 = H at hP hS ⊢
          have hP : va_P G.1 gCl [al G h_items 96 items, al G h_moved 24 moved, oc h 9 [.ref h_s, .ref h_images, .int kept, .ref h_tape, .int typed, .ref h_draft, .int atv, .ref h_items, .ref h_moved, .ref h_sizes, .ref h_lanes, .ref h_less, .ref h_aside, .ref h_order], ai G h_sizes 4 sizes, ai G h_lanes 4 lanes] H := hP
          have hD : va_D A [al G h_items 96 items, al G h_moved 24 moved, oc h 9 [.ref h_s, .ref h_images, .int kept, .ref h_tape, .int typed, .ref h_draft, .int atv, .ref h_items, .ref h_moved, .ref h_sizes, .ref h_lanes, .ref h_less, .ref h_aside, .ref h_order], ai G h_sizes 4 sizes, ai G h_lanes 4 lanes] := hD
          refine lv_istore (lv' := [(7, .int r_12), (6, .int r_10), (0, .ref h), (1, .int p1), (2, .int p2), (3, .int p3), (4, .int p4), (5, .int p5)]) hx hb dX9_copy_68 hl (by decide) rfl (fun ls hl => ?_)
          refine lv_iload hx hb dX9_copy_70 (lv_at hl 1 rfl) ?_
          refine lv_if_ne (tgt := 80) hx hb dX9_copy_72 (by decide) (fun c_13 => ?_) (fun c_13 => ?_)
          · replace hw := hw.1 c_13
            refine lv_iload hx hb dX9_copy_80 (lv_at hl 1 rfl) ?_
            refine lv_if_eq (tgt := 90) hx hb dX9_copy_82 (by decide) (fun c_14 => ?_) (fun c_14 => ?_)
            · replace hw := hw.1 c_14
              refine lv_iload hx hb dX9_copy_90 (lv_at hl 0 rfl) ?_
              have hP9 := hP.sub (ws' := [oc h 9 [.ref h_s, .ref h_images, .int kept, .ref h_tape, .int typed, .ref h_draft, .int atv, .ref h_items, .ref h_moved, .ref h_sizes, .ref h_lanes, .ref h_less, .ref h_aside, .ref h_order], al G h_items 96 items, al G h_moved 24 moved, ai G h_sizes 4 sizes, ai G h_lanes 4 lanes]) [2, 0, 1, 3, 4] rfl
              have hD9 := hD.sub (ws' := [oc h 9 [.ref h_s, .ref h_images, .int kept, .ref h_tape, .int typed, .ref h_draft, .int atv, .ref h_items, .ref h_moved, .ref h_sizes, .ref h_lanes, .ref h_less, .ref h_aside, .ref h_order], al G h_items 96 items, al G h_moved 24 moved, ai G h_sizes 4 sizes, ai G h_lanes 4 lanes]) [2, 0, 1, 3, 4] (by decide) rfl
              exact W.iret (v := r_12) hx hb hr (fun t ht hW => ⟨⟨r_12, (items, moved), rfl, hw, by rw [ht]; exact hP9, hD9⟩, hS.F ht⟩) hS.2.2 dX9_copy_92
            · replace hw := hw.2 c_14
              refine lv_iload hx hb dX9_copy_85 (lv_at hl 1 rfl) ?_
              refine lv_goto (tgt := 92) hx hb dX9_copy_87 (by decide) ?_
              have hP9 := hP.sub (ws' := [oc h 9 [.ref h_s, .ref h_images, .int kept, .ref h_tape, .int typed, .ref h_draft, .int atv, .ref h_items, .ref h_moved, .ref h_sizes, .ref h_lanes, .ref h_less, .ref h_aside, .ref h_order], al G h_items 96 items, al G h_moved 24 moved, ai G h_sizes 4 sizes, ai G h_lanes 4 lanes]) [2, 0, 1, 3, 4] rfl
              have hD9 := hD.sub (ws' := [oc h 9 [.ref h_s, .ref h_images, .int kept, .ref h_tape, .int typed, .ref h_draft, .int atv, .ref h_items, .ref h_moved, .ref h_sizes, .ref h_lanes, .ref h_less, .ref h_aside, .ref h_order], al G h_items 96 items, al G h_moved 24 moved, ai G h_sizes 4 sizes, ai G h_lanes 4 lanes]) [2, 0, 1, 3, 4] (by decide) rfl
              exact W.iret (v := r_10) hx hb hr (fun t ht hW => ⟨⟨r_10, (items, moved), rfl, hw, by rw [ht]; exact hP9, hD9⟩, hS.F ht⟩) hS.2.2 dX9_copy_92
          · replace hw := hw.2 c_13
            refine lv_iload hx hb dX9_copy_75 (lv_at hl 0 rfl) ?_
            refine lv_if_eq (tgt := 93) hx hb dX9_copy_77 (by decide) (fun c_15 => ?_) (fun c_15 => ?_)
            · replace hw := hw.1 c_15
              refine lv_iconst (v := (0 : Int32)) hx hb dX9_copy_93 (by decide) ?_
              refine lv_istore (lv' := [(8, .int (0 : Int32)), (7, .int r_12), (6, .int r_10), (0, .ref h), (1, .int p1), (2, .int p2), (3, .int p3), (4, .int p4), (5, .int p5)]) hx hb dX9_copy_94 hl (by decide) rfl (fun ls hl => ?_)
              obtain ⟨j_, hw⟩ := hw
              exact wk_X9_copy_96 h h_s h_images h_tape h_draft h_items h_moved h_sizes h_lanes h_less h_aside h_order kept typed atv sizes lanes p1 p2 p3 p4 p5  Q  C  j_ items moved (0 : Int32) H locs (hP.sub [2, 0, 1, 3, 4] rfl) (hD.sub [2, 0, 1, 3, 4] (by decide) rfl) hS ls (lv_sub hl [3, 4, 5, 6, 7, 8, 0] rfl) hw
            · replace hw := hw.2 c_15
              refine lv_iload hx hb dX9_copy_80 (lv_at hl 1 rfl) ?_
              refine lv_if_eq (tgt := 90) hx hb dX9_copy_82 (by decide) (fun c_16 => ?_) (fun c_16 => ?_)
              · replace hw := hw.1 c_16
                refine lv_iload hx hb dX9_copy_90 (lv_at hl 0 rfl) ?_
                have hP9 := hP.sub (ws' := [oc h 9 [.ref h_s, .ref h_images, .int kept, .ref h_tape, .int typed, .ref h_draft, .int atv, .ref h_items, .ref h_moved, .ref h_sizes, .ref h_lanes, .ref h_less, .ref h_aside, .ref h_order], al G h_items 96 items, al G h_moved 24 moved, ai G h_sizes 4 sizes, ai G h_lanes 4 lanes]) [2, 0, 1, 3, 4] rfl
                have hD9 := hD.sub (ws' := [oc h 9 [.ref h_s, .ref h_images, .int kept, .ref h_tape, .int typed, .ref h_draft, .int atv, .ref h_items, .ref h_moved, .ref h_sizes, .ref h_lanes, .ref h_less, .ref h_aside, .ref h_order], al G h_items 96 items, al G h_moved 24 moved, ai G h_sizes 4 sizes, ai G h_lanes 4 lanes]) [2, 0, 1, 3, 4] (by decide) rfl
                exact W.iret (v := r_12) hx hb hr (fun t ht hW => ⟨⟨r_12, (items, moved), rfl, hw, by rw [ht]; exact hP9, hD9⟩, hS.F ht⟩) hS.2.2 dX9_copy_92
              · replace hw := hw.2 c_16
                refine lv_iload hx hb dX9_copy_85 (lv_at hl 1 rfl) ?_
                refine lv_goto (tgt := 92) hx hb dX9_copy_87 (by decide) ?_
                have hP9 := hP.sub (ws' := [oc h 9 [.ref h_s, .ref h_images, .int kept, .ref h_tape, .int typed, .ref h_draft, .int atv, .ref h_items, .ref h_moved, .ref h_sizes, .ref h_lanes, .ref h_less, .ref h_aside, .ref h_order], al G h_items 96 items, al G h_moved 24 moved, ai G h_sizes 4 sizes, ai G h_lanes 4 lanes]) [2, 0, 1, 3, 4] rfl
                have hD9 := hD.sub (ws' := [oc h 9 [.ref h_s, .ref h_images, .int kept, .ref h_tape, .int typed, .ref h_draft, .int atv, .ref h_items, .ref h_moved, .ref h_sizes, .ref h_lanes, .ref h_less, .ref h_aside, .ref h_order], al G h_items 96 items, al G h_moved 24 moved, ai G h_sizes 4 sizes, ai G h_lanes 4 lanes]) [2, 0, 1, 3, 4] (by decide) rfl
                exact W.iret (v := r_10) hx hb hr (fun t ht hW => ⟨⟨r_10, (items, moved), rfl, hw, by rw [ht]; exact hP9, hD9⟩, hS.F ht⟩) hS.2.2 dX9_copy_92
        · replace hw := hw.2 c_8
          refine lv_bipush (v := (-11 : Int32)) hx hb dX9_copy_34 (by decide) ?_
          have hP9 := hP
          have hD9 := hD
          exact W.iret (v := (-11 : Int32)) hx hb hr (fun t ht hW => ⟨⟨(-11 : Int32), (items, moved), rfl, hw, by rw [ht]; exact hP9, hD9⟩, hS.F ht⟩) hS.2.2 dX9_copy_36
    · replace hw := hw.2 c_4
      refine lv_iconst (v := (-1 : Int32)) hx hb dX9_copy_14 (by decide) ?_
      have hP9 := hP
      have hD9 := hD
      exact W.iret (v := (-1 : Int32)) hx hb hr (fun t ht hW => ⟨⟨(-1 : Int32), (items, moved), rfl, hw, by rw [ht]; exact hP9, hD9⟩, hS.F ht⟩) hS.2.2 dX9_copy_15
