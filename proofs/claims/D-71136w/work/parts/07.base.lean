/-! the ground of the walks: one list of classes, one list of array classes, one bundle of what holds all through a run -/
set_option maxRecDepth 100000
abbrev GT : Type := va_G × (Nat → ClassId)
abbrev gCl : List vw_C := [(RX0, TX0, 18), (RX1, TX6, 0), (RX2, TX6, 0), (RX3, TX6, 0), (RX4, TX6, 0), (RX5, TX6, 0), (RX6, TX6, 8), (RX7, TX7, 7), (RX8, TX8, 1), (RX9, TX9, 14)]
abbrev gTys (d : Nat → ClassId) : List (ClassId × FieldType) := [(d 0, .int), (d 1, .long), (d 2, .char), (d 3, .byte), (d 4, .short), (d 5, .object "BattleBench$Plain"), (d 6, .object "BattleBench$Bench"), (d 7, .object "BattleBench$Sheet")]
def nestWord : Cond → Bool
  | .fieldLinkNest _ _ _ _ _ _ => true
  | .methodLinkNest _ _ _ _ => true
  | .castable _ _ => true
  | .declares _ => true
  | _ => false
def gNest : List Cond := lw_tbl.filter (fun w => nestWord w && w.onTables)
def gNc : List (String × String) := [("[B", "[S"), ("[B", "[I"), ("[B", "[J"), ("[S", "[B"), ("[S", "[I"), ("[S", "[J"), ("[I", "[B"), ("[I", "[S"), ("[I", "[J"), ("[J", "[B"), ("[J", "[S"), ("[J", "[I"),
  ("java/lang/ClassCastException", "java/lang/NullPointerException"), ("java/lang/ArrayIndexOutOfBoundsException", "java/lang/NullPointerException"), ("java/lang/ArrayIndexOutOfBoundsException", "java/lang/ClassCastException"), ("java/lang/ArrayStoreException", "java/lang/NullPointerException"), ("java/lang/ArrayIndexOutOfBoundsException", "java/lang/ArrayStoreException")]
def gK (G : GT) (U : State) : Prop := va_K G.1 gCl (gTys G.2) U ∧ (∀ w ∈ gNest, w.before #[] U = true) ∧ ∀ q ∈ gNc, va_Nc q.1 q.2 U
theorem nest_warm {w : Cond} (hn : nestWord w = true) {s U : State} (hW : s.WarmedH U.vm) (h : va_Nw w s) : va_Nw w U := by
  cases w <;> first | exact va_Nw.warmF hW h | exact va_Nw.warmM hW h | exact va_Nw.warmC hW h | exact va_Nw.warmD hW h | (simp [nestWord] at hn)
theorem gNest_spec {w : Cond} (h : w ∈ gNest) : nestWord w = true ∧ w.onTables = true := by
  have := (List.mem_filter.mp h).2
  simpa using this
theorem gNest_in {w : Cond} (h : w ∈ lw_tbl) (hn : (nestWord w && w.onTables) = true) : w ∈ gNest := List.mem_filter.mpr ⟨h, hn⟩
theorem gK.warm {G : GT} {s U : State} (hW : s.WarmedH U.vm) (h : gK G s) : gK G U :=
  ⟨va_K.moved hW.alike h.1, fun w hw => nest_warm (gNest_spec hw).1 hW (h.2.1 w hw), fun q hq => (h.2.2 q hq).moved hW.alike⟩
theorem gK.call {G : GT} {U : State} {g : JFrame} {mk : MethodId} {a : Array Value} (h : gK G U) : gK G (U.calling g mk a) :=
  ⟨va_K.moved (u := U) (U := U.calling g mk a) (Vm.Alike.refl U.vm) h.1, fun w hw => va_Nw.same (gNest_spec hw).2 (u := U) (U := U.calling g mk a) rfl (h.2.1 w hw), fun q hq => (h.2.2 q hq).moved (u := U) (U := U.calling g mk a) (Vm.Alike.refl U.vm)⟩
theorem gK.n {G : GT} {s : State} {args : Array Value} {w : Cond} (h : gK G s) (hm : w ∈ lw_tbl) (hn : (nestWord w && w.onTables) = true) : w.before args s = true :=
  va_Nw.use (gNest_spec (gNest_in hm hn)).2 (h.2.1 w (gNest_in hm hn))
/-- what a method's walk stands on -/
def Cx (p : Program) (s : State) (m : MethodId) (meth : Method) (c : Code) (cc : ByteArray) (nL : Nat) (rt : Option FieldType) (own : String) (args : Array Value) (G : GT) (A : Nat → Prop) : Prop :=
  p.tables.exec = Jvm.exec ∧ c.code = cc ∧ meth.sig.returnType = rt ∧ meth.locks = false ∧ c.maxLocals = nL ∧ s.vm.findClass own = some m.cls ∧ (∀ w ∈ lw_all, w.before args s = true) ∧ gK G s ∧ ∀ q : Nat, s.heap.size ≤ q → A q
theorem vin_l {i : Int32} {n : Nat} (h : (!(decide (i < 0)) && decide (i.toNatClampNeg < n)) = true) : vp_in i n := by
  simp only [Bool.and_eq_true, Bool.not_eq_true', decide_eq_false_iff_not, decide_eq_true_eq] at h
  intro h2
  rcases h2 with h2 | h2
  · exact h.1 h2
  · omega
/-- a number that is a boolean -/
def z01 (v : Int32) : Prop := v = 0 ∨ v = 1
theorem z01.nar {v : Int32} (h : z01 v) : narrow .boolean (.int v) = .int v := by
  rcases h with rfl | rfl <;> rfl
section ZR
variable {p : Program} {l : Launch} {e : Env} {R : Room} {s : State} {m : MethodId} {args : Array Value} {below : List Frame} {meth : Method} {c : Code} {H : Heap} {locs : List Loc} {cells slots : Nat} {Q : State → Prop}
variable {cc : ByteArray} {pc : Nat} {ls : Array Slot} {rest : List Value} {D : va_G} {cl : List vw_C} {A : Nat → Prop} {a : Nat} {tys : List (ClassId × FieldType)} {ws : va_W} {H0 : Heap}
theorem z_iald (hexec : p.tables.exec = Jvm.exec) (hb : c.code = cc) (hK : va_K D cl tys s) (hP : va_P D cl ws H) (q0 t0 : Nat) {cA : ClassId} {n : Nat} {f : Nat → Int32} (ha : ws[q0]? = some (a, .inl (cA, n, .inl f))) (ht : tys[t0]? = some (cA, .int)) {i : Int32} (hin : vp_in i n) (hdg : decode cc pc = .ok (.iaload, 1)) {k : Nat} (hk : i.toNatClampNeg = k)
    (kk : W p l e R s m args below meth c H locs cells slots Q (F0 m (pc + 1) ls (.int (f k) :: rest))) : W p l e R s m args below meth c H locs cells slots Q (F0 m pc ls (.int i :: .ref a :: rest)) := by
  subst hk
  exact va_iald hexec hb hK hP q0 t0 ha ht hin hdg kk
theorem z_cald (hexec : p.tables.exec = Jvm.exec) (hb : c.code = cc) (hK : va_K D cl tys s) (hP : va_P D cl ws H) (q0 t0 : Nat) {cA : ClassId} {n : Nat} {f : Nat → Int32} (ha : ws[q0]? = some (a, .inl (cA, n, .inl f))) (ht : tys[t0]? = some (cA, .char)) {i : Int32} (hin : vp_in i n) (hdg : decode cc pc = .ok (.caload, 1)) {k : Nat} (hk : i.toNatClampNeg = k)
    (kk : W p l e R s m args below meth c H locs cells slots Q (F0 m (pc + 1) ls (.int (f k) :: rest))) : W p l e R s m args below meth c H locs cells slots Q (F0 m pc ls (.int i :: .ref a :: rest)) := by
  subst hk
  exact va_cald hexec hb hK hP q0 t0 ha ht hin hdg kk
theorem z_lald (hexec : p.tables.exec = Jvm.exec) (hb : c.code = cc) (hK : va_K D cl tys s) (hP : va_P D cl ws H) (q0 t0 : Nat) {cA : ClassId} {n : Nat} {f : Nat → Int64} (ha : ws[q0]? = some (a, .inl (cA, n, .inr (.inl f)))) (ht : tys[t0]? = some (cA, .long)) {i : Int32} (hin : vp_in i n) (hdg : decode cc pc = .ok (.laload, 1)) {k : Nat} (hk : i.toNatClampNeg = k)
    (kk : W p l e R s m args below meth c H locs cells slots Q (F0 m (pc + 1) ls (.long (f k) :: rest))) : W p l e R s m args below meth c H locs cells slots Q (F0 m pc ls (.int i :: .ref a :: rest)) := by
  subst hk
  exact va_lald hexec hb hK hP q0 t0 ha ht hin hdg kk
theorem z_iast (hexec : p.tables.exec = Jvm.exec) (hb : c.code = cc) (hK : va_K D cl tys s) (hP : va_P D cl ws H) (hD : va_D A ws) (hS : va_S A H0 H locs) (q0 t0 : Nat) {cA : ClassId} {n : Nat} {f : Nat → Int32} (ha : ws[q0]? = some (a, .inl (cA, n, .inl f))) (ht : tys[t0]? = some (cA, .int)) {i : Int32} {x : Int32} (hin : vp_in i n) (hdg : decode cc pc = .ok (.iastore, 1)) {k : Nat} (hk : i.toNatClampNeg = k)
    (kk : ∀ (f' : Nat → Int32), f' = upd f k x → ∀ (H1 : Heap) (locs1 : List Loc), va_P D cl (ws.set q0 (a, .inl (cA, n, .inl f'))) H1 → va_D A (ws.set q0 (a, .inl (cA, n, .inl f'))) → va_S A H0 H1 locs1 → W p l e R s m args below meth c H1 locs1 cells slots Q (F0 m (pc + 1) ls rest)) : W p l e R s m args below meth c H locs cells slots Q (F0 m pc ls (.int x :: .int i :: .ref a :: rest)) := by
  subst hk
  exact va_iast hexec hb hK hP hD hS q0 t0 ha ht hin hdg (kk _ rfl)
theorem z_cast (hexec : p.tables.exec = Jvm.exec) (hb : c.code = cc) (hK : va_K D cl tys s) (hP : va_P D cl ws H) (hD : va_D A ws) (hS : va_S A H0 H locs) (q0 t0 : Nat) {cA : ClassId} {n : Nat} {f : Nat → Int32} (ha : ws[q0]? = some (a, .inl (cA, n, .inl f))) (ht : tys[t0]? = some (cA, .char)) {i : Int32} {x : Int32} (hin : vp_in i n) (hdg : decode cc pc = .ok (.castore, 1)) {k : Nat} (hk : i.toNatClampNeg = k)
    (kk : ∀ (f' : Nat → Int32), f' = upd f k (vp_nar .char x) → ∀ (H1 : Heap) (locs1 : List Loc), va_P D cl (ws.set q0 (a, .inl (cA, n, .inl f'))) H1 → va_D A (ws.set q0 (a, .inl (cA, n, .inl f'))) → va_S A H0 H1 locs1 → W p l e R s m args below meth c H1 locs1 cells slots Q (F0 m (pc + 1) ls rest)) : W p l e R s m args below meth c H locs cells slots Q (F0 m pc ls (.int x :: .int i :: .ref a :: rest)) := by
  subst hk
  exact va_cast hexec hb hK hP hD hS q0 t0 ha ht hin hdg (kk _ rfl)
theorem z_last (hexec : p.tables.exec = Jvm.exec) (hb : c.code = cc) (hK : va_K D cl tys s) (hP : va_P D cl ws H) (hD : va_D A ws) (hS : va_S A H0 H locs) (q0 t0 : Nat) {cA : ClassId} {n : Nat} {f : Nat → Int64} (ha : ws[q0]? = some (a, .inl (cA, n, .inr (.inl f)))) (ht : tys[t0]? = some (cA, .long)) {i : Int32} {x : Int64} (hin : vp_in i n) (hdg : decode cc pc = .ok (.lastore, 1)) {k : Nat} (hk : i.toNatClampNeg = k)
    (kk : ∀ (f' : Nat → Int64), f' = vp_updL f k x → ∀ (H1 : Heap) (locs1 : List Loc), va_P D cl (ws.set q0 (a, .inl (cA, n, .inr (.inl f')))) H1 → va_D A (ws.set q0 (a, .inl (cA, n, .inr (.inl f')))) → va_S A H0 H1 locs1 → W p l e R s m args below meth c H1 locs1 cells slots Q (F0 m (pc + 1) ls rest)) : W p l e R s m args below meth c H locs cells slots Q (F0 m pc ls (.long x :: .int i :: .ref a :: rest)) := by
  subst hk
  exact va_last hexec hb hK hP hD hS q0 t0 ha ht hin hdg (kk _ rfl)
theorem z_tabIn (hexec : p.tables.exec = Jvm.exec) (hb : c.code = cc) {dflt lo hi : Int} {offs : Array Int} {len : Nat} {x k : Int32} {off : Int} {tgt : Nat} (hdg : decode cc pc = .ok (.tableswitch dflt lo hi offs, len)) (hx : x = k) (h1 : (!(decide (k.toInt < lo)) && !(decide (hi < k.toInt))) = true) (ho : offs[(k.toInt - lo).toNat]? = some off) (ht : (pc : Int) + off = (tgt : Int))
    (kk : W p l e R s m args below meth c H locs cells slots Q (F0 m tgt ls rest)) : W p l e R s m args below meth c H locs cells slots Q (F0 m pc ls (.int x :: rest)) := by
  subst hx
  simp only [Bool.and_eq_true, Bool.not_eq_true', decide_eq_false_iff_not] at h1
  exact lv_tableIn hexec hb hdg h1.1 h1.2 ho ht kk
end ZR
/-- a table's numbers, all of them not x: then x is outside -/
theorem z_tabOut {x : Int32} (lo : Int) (n : Nat) (ks : List Int32) (hk : ks.map (fun k => k.toInt) = (List.range n).map (fun i : Nat => lo + (i : Int))) (h : ∀ k ∈ ks, ¬ x = k) : x.toInt < lo ∨ lo + (n : Int) - 1 < x.toInt := by
  by_cases h1 : x.toInt < lo
  · exact Or.inl h1
  · by_cases h2 : lo + (n : Int) - 1 < x.toInt
    · exact Or.inr h2
    · exfalso
      have hm : x.toInt ∈ (List.range n).map (fun i : Nat => lo + (i : Int)) := by
        rw [List.mem_map]
        exact ⟨(x.toInt - lo).toNat, List.mem_range.mpr (by omega), by omega⟩
      rw [← hk, List.mem_map] at hm
      obtain ⟨k, hk1, hk2⟩ := hm
      exact h k hk1 (Int32.toInt_inj.mp hk2.symm)
/-! a bench's contents, cells -/
abbrev BT : Type := (Nat → Int32) × (Nat → Int32) × (Nat → Int32) × (Nat → Int32) × Int32 × Int32 × Int32 × Int32
abbrev kd (b : BT) : Nat → Int32 := b.1
abbrev pl (b : BT) : Nat → Int32 := b.2.1
abbrev lf (b : BT) : Nat → Int32 := b.2.2.1
abbrev se (b : BT) : Nat → Int32 := b.2.2.2.1
abbrev mn (b : BT) : Int32 := b.2.2.2.2.1
abbrev ma (b : BT) : Int32 := b.2.2.2.2.2.1
abbrev yr (b : BT) : Int32 := b.2.2.2.2.2.2.1
abbrev dw (b : BT) : Int32 := b.2.2.2.2.2.2.2
abbrev oc (a ci : Nat) (fs : List Value) : Nat × va_E := (a, .inr (ci, fs))
abbrev ai (G : GT) (a n : Nat) (f : Nat → Int32) : Nat × va_E := (a, .inl (G.2 0, n, .inl f))
abbrev al (G : GT) (a n : Nat) (f : Nat → Int64) : Nat × va_E := (a, .inl (G.2 1, n, .inr (.inl f)))
abbrev ac (G : GT) (a n : Nat) (f : Nat → Int32) : Nat × va_E := (a, .inl (G.2 2, n, .inl f))
section ZC
variable {p : Program} {l : Launch} {e : Env} {R : Room} {s : State} {m : MethodId} {args : Array Value} {below : List Frame} {meth : Method} {c : Code} {H : Heap} {locs : List Loc} {cells slots : Nat} {Q : State → Prop}
variable {cc : ByteArray} {pc : Nat} {ls : Array Slot} {rest : List Value} {D : va_G} {cl : List vw_C} {A : Nat → Prop} {a : Nat} {tys : List (ClassId × FieldType)} {ws : va_W} {H0 : Heap}
theorem z_copyi {own : String} {index : Nat} (hexec : p.tables.exec = Jvm.exec) (hb : c.code = cc) (hml : c.maxLocals = ls.size) (hown : s.vm.findClass own = some m.cls) (hlink : (Cond.methodLink own index arraycopyName).before args s = true) (hnat : (Cond.native arraycopyName).before args s = true) (hstat : (Cond.static arraycopyName).before args s = true) (hini : (Cond.initialized "java/lang/System").before args s = true)
    (hK : va_K D cl tys s) (hP : va_P D cl ws H) (hD : va_D A ws) (hS : va_S A H0 H locs) (q0 q1 t0 t1 : Nat) {a0 : Nat} {c0 c1 : ClassId} {n0 n1 : Nat} {f g : Nat → Int32} (ha0 : ws[q0]? = some (a0, .inl (c0, n0, .inl f))) (ha1 : ws[q1]? = some (a, .inl (c1, n1, .inl g))) (ht0 : tys[t0]? = some (c0, .int)) (ht1 : tys[t1]? = some (c1, .int)) (hprim : refKind .int = false)
    {sp dp n : Int32} (h1 : ¬ sp < 0) (h2 : ¬ dp < 0) (h3 : ¬ n < 0) (h4 : sp.toNatClampNeg + n.toNatClampNeg ≤ n0) (h5 : dp.toNatClampNeg + n.toNatClampNeg ≤ n1) (hfit : ∀ i, i < n.toNatClampNeg → fits .int (.int (f (sp.toNatClampNeg + i))) = true)
    (hframes : 1 ≤ R.frames) (hlocals : (rest.map fun v => v.category).sum + (nativeFrameWords "java/lang/System" "arraycopy" 5 + 11) ≤ R.locals) (hdg : decode cc pc = .ok (.invokestatic index, 3))
    {k1 k2 k3 : Nat} (e1 : sp.toNatClampNeg = k1) (e2 : dp.toNatClampNeg = k2) (e3 : n.toNatClampNeg = k3)
    (kk : ∀ g' : Nat → Int32, g' = va_cpy f g k1 k2 k3 → ∀ (H1 : Heap) (locs1 : List Loc), va_P D cl (ws.set q1 (a, .inl (c1, n1, .inl g'))) H1 → va_D A (ws.set q1 (a, .inl (c1, n1, .inl g'))) → va_S A H0 H1 locs1 → W p l e R s m args below meth c H1 locs1 cells slots Q (F0 m (pc + 3) ls rest)) : W p l e R s m args below meth c H locs cells slots Q (F0 m pc ls (.int n :: .int dp :: .ref a :: .int sp :: .ref a0 :: rest)) := by
  subst e1 e2 e3
  exact va_copyi hexec hb hml hown hlink hnat hstat hini hK hP hD hS q0 q1 t0 t1 ha0 ha1 ht0 ht1 hprim h1 h2 h3 h4 h5 hfit hframes hlocals hdg (kk _ rfl)
end ZC
def jmax (x y : Int32) : Int32 := if x < y then y else x
def jmin (x y : Int32) : Int32 := if y < x then y else x
