/-! System.arraycopy in a walk: where it throws -/
set_option maxRecDepth 100000
/-- the copy is within both -/
def cpOk (sp dp n : Int32) (n0 n1 : Nat) : Prop := ¬ sp < 0 ∧ ¬ dp < 0 ∧ ¬ n < 0 ∧ sp.toNatClampNeg + n.toNatClampNeg ≤ n0 ∧ dp.toNatClampNeg + n.toNatClampNeg ≤ n1
theorem xc_nn (z : Int32) (hz : ¬ z < 0) : z.toInt = (z.toNatClampNeg : Int) := by
  have hz0 : (0 : Int) ≤ z.toInt := by
    have := Int32.not_lt.mp hz
    simpa using Int32.le_iff_toInt_le.mp this
  show z.toInt = ((z.toInt.toNat : Nat) : Int)
  omega
theorem xc_what {sT : FieldType} {sp dp n : Int32} {n0 n1 : Nat} (h : ¬ cpOk sp dp n n0 n1) : ∃ what, xcWhat sT sp dp n n0 n1 = some what := by
  unfold xcWhat
  by_cases h1 : sp < 0
  · exact ⟨_, if_pos h1⟩
  rw [if_neg h1]
  by_cases h2 : dp < 0
  · exact ⟨_, if_pos h2⟩
  rw [if_neg h2]
  by_cases h3 : n < 0
  · exact ⟨_, if_pos h3⟩
  rw [if_neg h3]
  have e1 := xc_nn sp h1
  have e2 := xc_nn dp h2
  have e3 := xc_nn n h3
  by_cases h4 : sp.toInt + n.toInt > n0
  · exact ⟨_, if_pos h4⟩
  rw [if_neg h4]
  by_cases h5 : dp.toInt + n.toInt > n1
  · exact ⟨_, if_pos h5⟩
  exact absurd ⟨h1, h2, h3, by omega, by omega⟩ h
theorem vp_cls (cA : ClassId) (y : vp_A) : (vp_cell cA y).cls = cA ∧ (vp_cell cA y).vm = .none ∧ (vp_cell cA y).slots.size = y.1 := by
  obtain ⟨n, f | f | f | f | f⟩ := y <;> exact ⟨rfl, rfl, arrV_size _ _ _⟩
theorem x_arrT {D : va_G} {cl : List vw_C} {tys : List (ClassId × FieldType)} {s : State} (hK : va_K D cl tys s) (t0 : Nat) {cA : ClassId} {ty : FieldType} (ht : tys[t0]? = some (cA, ty)) : ∃ ka comp, s.vm.classes[cA]? = some ka ∧ ka.kind = .array comp ty := by
  obtain ⟨k, hk, comp, hkind⟩ := ((hK.2 t0 _ ht).1 0 (fun _ => .null)).2
  exact ⟨k, comp, hk, hkind⟩
section XCW2
variable {p : Program} {l : Launch} {e : Env} {R : Room} {s : State} {m : MethodId} {args : Array Value} {below : List Frame} {meth : Method} {c : Code} {H H0 : Heap} {locs : List Loc} {cells slots : Nat} {Q : State → Prop} {G : GT} {A : Nat → Prop} {aS : Nat} {ws : va_W}
variable {pc : Nat} {ls : Array Slot} {rest : List Value} {cc : ByteArray}
/-- what all three have in common -/
def XcP (l : Launch) (R : Room) (s : State) (m : MethodId) (args : Array Value) (c : Code) (H H0 : Heap) (locs : List Loc) (cells slots : Nat) (G : GT) (A : Nat → Prop) (aS : Nat) (ws : va_W) (pc : Nat) (ls : Array Slot) (rest : List Value) (cc : ByteArray) (own : String) (index : Nat) (tb : Tables) : Prop :=
  tb.exec = Jvm.exec ∧ c.code = cc ∧ c.maxLocals = ls.size ∧ (∀ w ∈ lw_all, w.before args s = true) ∧ gK G s ∧ XCx l aS s A ∧ va_S A H0 H locs ∧ va_P G.1 gCl ws H ∧ s.vm.findClass own = some m.cls ∧ (Cond.methodLink own index arraycopyName).before args s = true ∧ (Cond.native arraycopyName).before args s = true ∧ (Cond.static arraycopyName).before args s = true ∧ (Cond.initialized "java/lang/System").before args s = true ∧
  decode cc pc = .ok (.invokestatic index, 3) ∧ (rest.map fun v => v.category).sum ≤ 8 ∧ 8 < R.frames ∧ 10248 ≤ R.locals ∧ cells + 3 ≤ R.cells ∧ slots + (1000 + 10) ≤ R.slots
theorem w_cpMsg {own : String} {index : Nat} (hp : XcP l R s m args c H H0 locs cells slots G A aS ws pc ls rest cc own index p.tables) (k : Nat) (hk : k < 5) (hk1 : 1 ≤ k) {a b : Option Nat} {sp dp n : Int32} {text : String} (ht1 : (text == notModelled) = false) (ht2 : (stringBytes (stringToUtf16 text)).size ≤ 1000)
    (hw : ∀ (vm' : Vm) (U : State), s.WarmedH vm' → U.heap = H → U.vm = vm' → ∀ d acts, wp (Native.java_lang_System.arraycopy.sem #[va_rf a, .int sp, va_rf b, .int dp, .int n]) (fun _ _ _ _ => False) (fun x _ s₁ => x = .throwNew (xN k) (some text) ∧ s₁ = U) e d acts U)
    (kk : ∀ (x : Nat) (H1 : Heap), xObj s k x H1 → va_P G.1 gCl ws H1 → va_S A H0 H1 locs → H.size ≤ H1.size → (∀ q, q < H.size → H1[q]? = H[q]?) → WX p l e R s m args below meth c H1 locs (cells + 3) (slots + (1000 + 10)) Q (F0 m pc ls rest) x) : W p l e R s m args below meth c H locs cells slots Q (F0 m pc ls (.int n :: .int dp :: va_rf b :: .int sp :: va_rf a :: rest)) := by
  obtain ⟨hexec, hb, hml, hts, hK, hX, hS, hP, hown, hlink, hnat, hstat, hini, hdg, hl, hfr, hlo, hRc, hRs⟩ := hp
  intro T hT X
  obtain ⟨f1, f2, f3, f4⟩ := xN_fit k hk hk1
  have f5 := xUp_len k hk hk1
  have hnw : nativeFrameWords "java/lang/System" "arraycopy" 5 = 7 := by decide
  obtain ⟨vm', nf, n1, n2, n3, X2, st⟩ := xc_call X hexec hown hlink hnat hstat hini (a := a) (b := b) (sp := sp) (dp := dp) (n := n) (rest := rest) (g := F0 m pc ls (.int n :: .int dp :: va_rf b :: .int sp :: va_rf a :: rest)) rfl hml.symm rfl (by rw [hb]; exact hdg) (by omega) (by rw [hnw]; show 2 * 0 + (rest.map fun v => v.category).sum + (7 + 11) ≤ _; omega) (cls := xN k) (msg := some text) (fun vm' U h1 h2 h3 => hw vm' U h1 (h2.trans hT) h3)
  obtain ⟨U, ce, XU, e1, e2, e3, e4, e5, st2⟩ := x_msgNa X2 hexec (Launch.traces_off hX.1 X.admits) f1 f2 f3 f4 (x_ok hts hK hX.2.1 (x_msgL k hk hk1)) (fun x hx cell hc => hX.2.2 _ cell (hS.2.2 x hx) hc) ht1 ht2 (by omega) n1 n2 n3 (g := F0 m pc ls rest) rfl hml.symm (by omega) (x_room ls rest hl hlo) (by omega) hRc hRs
  have hT2 : (T.setVm vm').heap = H := hT
  rw [hT2] at e1 e2
  obtain ⟨t, a1, b1⟩ := kk ((T.setVm vm').heap.size + 2) U.heap ⟨ce, e3, e4, e5⟩ (hP.kept (fun k q hq => e2 q.1 ((hP k q hq).lt))) (x_S hS e1 e2) (by rw [e1]; omega) e2 U rfl XU
  exact ⟨t, st t (st2 t a1), b1⟩
theorem w_cpNull {own : String} {index : Nat} (hp : XcP l R s m args c H H0 locs cells slots G A aS ws pc ls rest cc own index p.tables) {a b : Option Nat} {sp dp n : Int32} (hn : a = none ∨ b = none)
    (kk : ∀ (x : Nat) (H1 : Heap), xObj s 0 x H1 → va_P G.1 gCl ws H1 → va_S A H0 H1 locs → H.size ≤ H1.size → (∀ q, q < H.size → H1[q]? = H[q]?) → WX p l e R s m args below meth c H1 locs (cells + 3) (slots + (1000 + 10)) Q (F0 m pc ls rest) x) : W p l e R s m args below meth c H locs cells slots Q (F0 m pc ls (.int n :: .int dp :: va_rf b :: .int sp :: va_rf a :: rest)) := by
  obtain ⟨hexec, hb, hml, hts, hK, hX, hS, hP, hown, hlink, hnat, hstat, hini, hdg, hl, hfr, hlo, hRc, hRs⟩ := hp
  intro T hT X
  have hnw : nativeFrameWords "java/lang/System" "arraycopy" 5 = 7 := by decide
  obtain ⟨vm', nf, n1, n2, n3, X2, st⟩ := xc_call X hexec hown hlink hnat hstat hini (a := a) (b := b) (sp := sp) (dp := dp) (n := n) (rest := rest) (g := F0 m pc ls (.int n :: .int dp :: va_rf b :: .int sp :: va_rf a :: rest)) rfl hml.symm rfl (by rw [hb]; exact hdg) (by omega) (by rw [hnw]; show 2 * 0 + (rest.map fun v => v.category).sum + (7 + 11) ≤ _; omega) (cls := "java/lang/NullPointerException") (msg := none) (fun vm' U h1 h2 h3 d acts => xc_null hn (fun _ => ⟨rfl, rfl⟩))
  obtain ⟨U, ce, XU, e1, e2, e3, e4, e5, st2⟩ := x_npeNa X2 hexec (Launch.traces_off hX.1 X.admits) (x_ok hts hK hX.2.1 x_npeL) (fun x hx cell hc => hX.2.2 _ cell (hS.2.2 x hx) hc) n1 n2 n3 (g := F0 m pc ls rest) rfl hml.symm hfr (x_room ls rest hl hlo) (by omega) (by omega)
  have hT2 : (T.setVm vm').heap = H := hT
  rw [hT2] at e1 e2
  obtain ⟨t, a1, b1⟩ := wx_widen (k := cells + 3) (n := slots + (1000 + 10)) (cells := cells + 1) (slots := slots + 8) (by omega) (by omega) (kk ((T.setVm vm').heap.size) U.heap ⟨ce, e3, e4, e5⟩ (hP.kept (fun k q hq => e2 q.1 ((hP k q hq).lt))) (x_S hS e1 e2) (by rw [e1]; omega) e2) U rfl XU
  exact ⟨t, st t (st2 t a1), b1⟩
theorem w_cpType {own : String} {index : Nat} (hp : XcP l R s m args c H H0 locs cells slots G A aS ws pc ls rest cc own index p.tables) (q0 q1 t0 t1 : Nat) {a0 a1 : Nat} {c0 c1 : ClassId} {y0 y1 : vp_A} {ty0 ty1 : FieldType} (ha0 : ws[q0]? = some (a0, .inl (c0, y0))) (ha1 : ws[q1]? = some (a1, .inl (c1, y1))) (ht0 : (gTys G.2)[t0]? = some (c0, ty0)) (ht1 : (gTys G.2)[t1]? = some (c1, ty1)) (hty : ((refKind ty0 != refKind ty1) || (!refKind ty0 && ty0 != ty1)) = true) {sp dp n : Int32}
    (kk : ∀ (x : Nat) (H1 : Heap), xObj s 4 x H1 → va_P G.1 gCl ws H1 → va_S A H0 H1 locs → H.size ≤ H1.size → (∀ q, q < H.size → H1[q]? = H[q]?) → WX p l e R s m args below meth c H1 locs (cells + 3) (slots + (1000 + 10)) Q (F0 m pc ls rest) x) : W p l e R s m args below meth c H locs cells slots Q (F0 m pc ls (.int n :: .int dp :: .ref a1 :: .int sp :: .ref a0 :: rest)) := by
  have hp' := hp
  obtain ⟨hexec, hb, hml, hts, hK, hX, hS, hP, hown, hlink, hnat, hstat, hini, hdg, hl, hfr, hlo, hRc, hRs⟩ := hp'
  have v0 := vp_cls c0 y0
  have v1 := vp_cls c1 y1
  obtain ⟨k0, m0, h0, g0⟩ := x_arrT hK.1 t0 ht0
  obtain ⟨k1, m1, h1, g1⟩ := x_arrT hK.1 t1 ht1
  refine w_cpMsg hp 4 (by omega) (by omega) (a := some a0) (b := some a1) (xc_kindText ty0 ty1).1 (xc_kindText ty0 ty1).2 (fun vm' U hW hU hvm d acts => ?_) kk
  obtain ⟨k0', h0', e0⟩ := hW.alike.2.2 _ _ h0
  obtain ⟨k1', h1', e1⟩ := hW.alike.2.2 _ _ h1
  exact xc_type (cs := vp_cell c0 y0) (cd := vp_cell c1 y1) (ks := k0') (kd := k1') (sC := m0) (dC := m1) (by rw [hU]; exact hP q0 _ ha0) (by rw [hU]; exact hP q1 _ ha1) (fun k h9 => by rw [v0.2.1] at h9; cases h9) (fun k h9 => by rw [v1.2.1] at h9; cases h9) (by rw [hvm, v0.1]; exact h0') (by rw [hvm, v1.1]; exact h1') (by rw [e0]; exact g0) (by rw [e1]; exact g1) hty (fun _ => ⟨rfl, rfl⟩)
theorem w_cpOut {own : String} {index : Nat} (hp : XcP l R s m args c H H0 locs cells slots G A aS ws pc ls rest cc own index p.tables) (q0 q1 t0 t1 : Nat) {a0 a1 : Nat} {c0 c1 : ClassId} {y0 y1 : vp_A} {ty : FieldType} (ha0 : ws[q0]? = some (a0, .inl (c0, y0))) (ha1 : ws[q1]? = some (a1, .inl (c1, y1))) (ht0 : (gTys G.2)[t0]? = some (c0, ty)) (ht1 : (gTys G.2)[t1]? = some (c1, ty)) (h31 : y0.1 < 2 ^ 31) (h32 : y1.1 < 2 ^ 31) {sp dp n : Int32} (hno : ¬ cpOk sp dp n y0.1 y1.1)
    (kk : ∀ (x : Nat) (H1 : Heap), xObj s 2 x H1 → va_P G.1 gCl ws H1 → va_S A H0 H1 locs → H.size ≤ H1.size → (∀ q, q < H.size → H1[q]? = H[q]?) → WX p l e R s m args below meth c H1 locs (cells + 3) (slots + (1000 + 10)) Q (F0 m pc ls rest) x) : W p l e R s m args below meth c H locs cells slots Q (F0 m pc ls (.int n :: .int dp :: .ref a1 :: .int sp :: .ref a0 :: rest)) := by
  have hp' := hp
  obtain ⟨hexec, hb, hml, hts, hK, hX, hS, hP, hown, hlink, hnat, hstat, hini, hdg, hl, hfr, hlo, hRc, hRs⟩ := hp'
  have v0 := vp_cls c0 y0
  have v1 := vp_cls c1 y1
  obtain ⟨k0, m0, h0, g0⟩ := x_arrT hK.1 t0 ht0
  obtain ⟨k1, m1, h1, g1⟩ := x_arrT hK.1 t1 ht1
  obtain ⟨what, hwh⟩ := xc_what (sT := ty) hno
  obtain ⟨b1, b2⟩ := xc_whatText h31 h32 hwh
  refine w_cpMsg hp 2 (by omega) (by omega) (a := some a0) (b := some a1) b1 b2 (fun vm' U hW hU hvm d acts => ?_) kk
  obtain ⟨k0', h0', e0⟩ := hW.alike.2.2 _ _ h0
  obtain ⟨k1', h1', e1⟩ := hW.alike.2.2 _ _ h1
  exact xc_out (cs := vp_cell c0 y0) (cd := vp_cell c1 y1) (ks := k0') (kd := k1') (sC := m0) (dC := m1) (by rw [hU]; exact hP q0 _ ha0) (by rw [hU]; exact hP q1 _ ha1) (fun k h9 => by rw [v0.2.1] at h9; cases h9) (fun k h9 => by rw [v1.2.1] at h9; cases h9) (by rw [hvm, v0.1]; exact h0') (by rw [hvm, v1.1]; exact h1') (by rw [e0]; exact g0) (by rw [e1]; exact g1) (by rw [v0.2.2, v1.2.2]; exact hwh) (fun _ => ⟨rfl, rfl⟩)
end XCW2
section XCZ
variable {p : Program} {l : Launch} {e : Env} {R : Room} {s : State} {m : MethodId} {args : Array Value} {below : List Frame} {meth : Method} {c : Code} {H H0 : Heap} {locs : List Loc} {cells slots : Nat} {Q : State → Prop} {D : va_G} {cl : List vw_C} {tys : List (ClassId × FieldType)} {A : Nat → Prop} {ws : va_W}
variable {pc : Nat} {ls : Array Slot} {rest : List Value} {cc : ByteArray} {a : Nat}
theorem z_cpI {own : String} {index : Nat} (hexec : p.tables.exec = Jvm.exec) (hb : c.code = cc) (hml : c.maxLocals = ls.size) (hown : s.vm.findClass own = some m.cls) (hlink : (Cond.methodLink own index arraycopyName).before args s = true) (hnat : (Cond.native arraycopyName).before args s = true) (hstat : (Cond.static arraycopyName).before args s = true) (hini : (Cond.initialized "java/lang/System").before args s = true)
    (hK : va_K D cl tys s) (hP : va_P D cl ws H) (hD : va_D A ws) (hS : va_S A H0 H locs) (q0 q1 t0 : Nat) {a0 : Nat} {c0 c1 : ClassId} {n0 n1 : Nat} {f g : Nat → Int32} {ty : FieldType} (ha0 : ws[q0]? = some (a0, .inl (c0, n0, .inl f))) (ha1 : ws[q1]? = some (a, .inl (c1, n1, .inl g))) (ht0 : tys[t0]? = some (c0, ty)) (ht1 : tys[t0]? = some (c1, ty)) (hprim : refKind ty = false)
    {sp dp n : Int32} (hok : cpOk sp dp n n0 n1) (hfit : ∀ i, i < n.toNatClampNeg → fits ty (.int (f (sp.toNatClampNeg + i))) = true)
    (hframes : 1 ≤ R.frames) (hlocals : (rest.map fun v => v.category).sum + (nativeFrameWords "java/lang/System" "arraycopy" 5 + 11) ≤ R.locals) (hdg : decode cc pc = .ok (.invokestatic index, 3))
    (kk : ∀ g' : Nat → Int32, g' = va_cpy f g sp.toNatClampNeg dp.toNatClampNeg n.toNatClampNeg → ∀ (H1 : Heap) (locs1 : List Loc), va_P D cl (ws.set q1 (a, .inl (c1, n1, .inl g'))) H1 → va_D A (ws.set q1 (a, .inl (c1, n1, .inl g'))) → va_S A H0 H1 locs1 → W p l e R s m args below meth c H1 locs1 cells slots Q (F0 m (pc + 3) ls rest)) : W p l e R s m args below meth c H locs cells slots Q (F0 m pc ls (.int n :: .int dp :: .ref a :: .int sp :: .ref a0 :: rest)) :=
  va_copyi hexec hb hml hown hlink hnat hstat hini hK hP hD hS q0 q1 t0 t0 ha0 ha1 ht0 ht1 hprim hok.1 hok.2.1 hok.2.2.1 hok.2.2.2.1 hok.2.2.2.2 hfit hframes hlocals hdg (kk _ rfl)
theorem z_cpL {own : String} {index : Nat} (hexec : p.tables.exec = Jvm.exec) (hb : c.code = cc) (hml : c.maxLocals = ls.size) (hown : s.vm.findClass own = some m.cls) (hlink : (Cond.methodLink own index arraycopyName).before args s = true) (hnat : (Cond.native arraycopyName).before args s = true) (hstat : (Cond.static arraycopyName).before args s = true) (hini : (Cond.initialized "java/lang/System").before args s = true)
    (hK : va_K D cl tys s) (hP : va_P D cl ws H) (hD : va_D A ws) (hS : va_S A H0 H locs) (q0 q1 t0 : Nat) {a0 : Nat} {c0 c1 : ClassId} {n0 n1 : Nat} {f g : Nat → Int64} {ty : FieldType} (ha0 : ws[q0]? = some (a0, .inl (c0, n0, .inr (.inl f)))) (ha1 : ws[q1]? = some (a, .inl (c1, n1, .inr (.inl g)))) (ht0 : tys[t0]? = some (c0, ty)) (ht1 : tys[t0]? = some (c1, ty)) (hprim : refKind ty = false)
    {sp dp n : Int32} (hok : cpOk sp dp n n0 n1) (hfit : ∀ i, i < n.toNatClampNeg → fits ty (.long (f (sp.toNatClampNeg + i))) = true)
    (hframes : 1 ≤ R.frames) (hlocals : (rest.map fun v => v.category).sum + (nativeFrameWords "java/lang/System" "arraycopy" 5 + 11) ≤ R.locals) (hdg : decode cc pc = .ok (.invokestatic index, 3))
    (kk : ∀ g' : Nat → Int64, g' = va_cpy f g sp.toNatClampNeg dp.toNatClampNeg n.toNatClampNeg → ∀ (H1 : Heap) (locs1 : List Loc), va_P D cl (ws.set q1 (a, .inl (c1, n1, .inr (.inl g')))) H1 → va_D A (ws.set q1 (a, .inl (c1, n1, .inr (.inl g')))) → va_S A H0 H1 locs1 → W p l e R s m args below meth c H1 locs1 cells slots Q (F0 m (pc + 3) ls rest)) : W p l e R s m args below meth c H locs cells slots Q (F0 m pc ls (.int n :: .int dp :: .ref a :: .int sp :: .ref a0 :: rest)) :=
  va_copyl hexec hb hml hown hlink hnat hstat hini hK hP hD hS q0 q1 t0 t0 ha0 ha1 ht0 ht1 hprim hok.1 hok.2.1 hok.2.2.1 hok.2.2.2.1 hok.2.2.2.2 hfit hframes hlocals hdg (kk _ rfl)
end XCZ
