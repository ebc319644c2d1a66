set_option maxRecDepth 100000
/-! arrays of references whose places are known -/
abbrev rl (l : List Nat) : Nat → Option Nat := fun i => l[i]?
abbrev ar (G : GT) (a ty n : Nat) (l : List Nat) : Nat × va_E := (a, .inl (G.2 ty, n, .inr (.inr (.inr (.inr (rl l))))))
theorem z_inAll {x : Int32} {n : Nat} (h : vp_in x n) (ks : List Int32) (hk : ks.map (fun k => k.toInt) = (List.range n).map (fun i : Nat => (0 : Int) + (i : Int))) (hne : ∀ k ∈ ks, ¬ x = k) : False := by
  have h1 := z_tabOut 0 n ks hk hne
  rw [vp_in_iff] at h
  omega
theorem vp_cellq_congr {cA : ClassId} {n : Nat} {f g : Nat → Option Nat} (h : ∀ j, j < n → f j = g j) : vp_cell cA (n, .inr (.inr (.inr (.inr f)))) = vp_cell cA (n, .inr (.inr (.inr (.inr g)))) := by
  show arrV cA n (fun j => va_rf (f j)) = arrV cA n (fun j => va_rf (g j))
  unfold arrV
  congr 2
  funext j
  show va_rf (f j.val) = va_rf (g j.val)
  rw [h j.val j.isLt]
section ZQ
variable {p : Program} {l : Launch} {e : Env} {R : Room} {s : State} {m : MethodId} {args : Array Value} {below : List Frame} {meth : Method} {c : Code} {H : Heap} {locs : List Loc} {cells slots : Nat} {Q : State → Prop}
variable {cc : ByteArray} {pc : Nat} {ls : Array Slot} {rest : List Value} {D : va_G} {cl : List vw_C} {A : Nat → Prop} {a : Nat} {tys : List (ClassId × FieldType)} {ws : va_W} {H0 : Heap}
theorem z_aald (hexec : p.tables.exec = Jvm.exec) (hb : c.code = cc) (hK : va_K D cl tys s) (hP : va_P D cl ws H) (q0 t0 : Nat) {cA : ClassId} {C : String} {n : Nat} {f : Nat → Option Nat} (ha : ws[q0]? = some (a, .inl (cA, n, .inr (.inr (.inr (.inr f)))))) (ht : tys[t0]? = some (cA, .object C)) {i k : Int32} (hi : i = k) (hin : vp_in k n) (hdg : decode cc pc = .ok (.aaload, 1)) {j y : Nat} (hj : k.toNatClampNeg = j) (hy : f j = some y)
    (kk : W p l e R s m args below meth c H locs cells slots Q (F0 m (pc + 1) ls (.ref y :: rest))) : W p l e R s m args below meth c H locs cells slots Q (F0 m pc ls (.int i :: .ref a :: rest)) := by
  subst hi
  refine va_aldq hexec hb hK hP q0 t0 ha ht hin hdg ?_
  rw [hj, hy]
  exact kk
theorem va_P.setq {q0 : Nat} {cA : ClassId} {n : Nat} {f g : Nat → Option Nat} (h : ∀ j, j < n → f j = g j) (hl : q0 < ws.length) (hP : va_P D cl (ws.set q0 (a, .inl (cA, n, .inr (.inr (.inr (.inr f)))))) H) : va_P D cl (ws.set q0 (a, .inl (cA, n, .inr (.inr (.inr (.inr g)))))) H := by
  intro k q hk
  by_cases hkp : k = q0
  · subst hkp
    rw [List.getElem?_set_self hl] at hk
    cases hk
    have h1 := hP k _ (by rw [List.getElem?_set_self hl])
    show H[a]? = some (vp_cell _ _)
    rw [← vp_cellq_congr h]
    exact h1
  · rw [List.getElem?_set_ne (Ne.symm hkp)] at hk
    exact hP k q (by rw [List.getElem?_set_ne (Ne.symm hkp)]; exact hk)
theorem va_D.setq {q0 : Nat} {e1 e2 : va_E} (hl : q0 < ws.length) (hD : va_D A (ws.set q0 (a, e1))) : va_D A (ws.set q0 (a, e2)) := by
  have h := va_D.set (e := e2) hD (p := q0) (a := a) (e0 := e1) (by rw [List.getElem?_set_self hl])
  rwa [List.set_set] at h
end ZQ
abbrev b8 (c0 c1 c2 c3 c4 c5 c6 c7 : BT) : Nat → BT := fun i => match i with
  | 0 => c0 | 1 => c1 | 2 => c2 | 3 => c3 | 4 => c4 | 5 => c5 | 6 => c6 | _ => c7
abbrev a8 (c0 c1 c2 c3 c4 c5 c6 c7 : Nat → Nat) : Nat → Nat → Nat := fun i => match i with
  | 0 => c0 | 1 => c1 | 2 => c2 | 3 => c3 | 4 => c4 | 5 => c5 | 6 => c6 | _ => c7
section ZQ2
variable {p : Program} {l : Launch} {e : Env} {R : Room} {s : State} {m : MethodId} {args : Array Value} {below : List Frame} {meth : Method} {c : Code} {H : Heap} {locs : List Loc} {cells slots : Nat} {Q : State → Prop}
variable {cc : ByteArray} {pc : Nat} {ls : Array Slot} {rest : List Value} {D : va_G} {cl : List vw_C} {A : Nat → Prop} {a : Nat} {tys : List (ClassId × FieldType)} {ws : va_W} {H0 : Heap}
theorem z_aast (hexec : p.tables.exec = Jvm.exec) (hb : c.code = cc) (hK : va_K D cl tys s) (hP : va_P D cl ws H) (hD : va_D A ws) (hS : va_S A H0 H locs) (q0 t0 qk ci : Nat) {cA : ClassId} {r : vw_C} {n v : Nat} {vs : List Value} {f : Nat → Option Nat} (ha : ws[q0]? = some (a, .inl (cA, n, .inr (.inr (.inr (.inr f)))))) (ht : tys[t0]? = some (cA, .object r.1)) (hv : ws[qk]? = some (v, .inr (ci, vs))) (hc : cl[ci]? = some r) {i : Int32} (hin : vp_in i n) (hdg : decode cc pc = .ok (.aastore, 1)) {k : Nat} (hk : i.toNatClampNeg = k)
    {g : Nat → Option Nat} (hg : ∀ j, j < n → va_up f k (some v) j = g j)
    (kk : ∀ (H1 : Heap) (locs1 : List Loc), va_P D cl (ws.set q0 (a, .inl (cA, n, .inr (.inr (.inr (.inr g)))))) H1 → va_D A (ws.set q0 (a, .inl (cA, n, .inr (.inr (.inr (.inr g)))))) → va_S A H0 H1 locs1 → W p l e R s m args below meth c H1 locs1 cells slots Q (F0 m (pc + 1) ls rest)) : W p l e R s m args below meth c H locs cells slots Q (F0 m pc ls (.ref v :: .int i :: .ref a :: rest)) := by
  subst hk
  have hlen := (List.getElem?_eq_some_iff.mp ha).1
  exact va_astq hexec hb hK hP hD hS q0 t0 qk ci ha ht hv hc hin hdg (fun H1 locs1 h1 h2 h3 => kk H1 locs1 (va_P.setq hg hlen h1) (va_D.setq hlen h2) h3)
theorem z_copyq {own : String} {index : Nat} (hexec : p.tables.exec = Jvm.exec) (hb : c.code = cc) (hml : c.maxLocals = ls.size) (hown : s.vm.findClass own = some m.cls) (hlink : (Cond.methodLink own index arraycopyName).before args s = true) (hnat : (Cond.native arraycopyName).before args s = true) (hstat : (Cond.static arraycopyName).before args s = true) (hini : (Cond.initialized "java/lang/System").before args s = true)
    (hK : va_K D cl tys s) (hP : va_P D cl ws H) (hD : va_D A ws) (hS : va_S A H0 H locs) (q0 t0 ci : Nat) {c0 : ClassId} {n0 : Nat} {f : Nat → Option Nat} {r : vw_C} (ha0 : ws[q0]? = some (a, .inl (c0, n0, .inr (.inr (.inr (.inr f)))))) (ht0 : tys[t0]? = some (c0, .object r.1)) (hc : cl[ci]? = some r)
    {sp dp n : Int32} (h1 : ¬ sp < 0) (h2 : ¬ dp < 0) (h3 : ¬ n < 0) (h4 : sp.toNatClampNeg + n.toNatClampNeg ≤ n0) (h5 : dp.toNatClampNeg + n.toNatClampNeg ≤ n0)
    {k1 k2 k3 : Nat} (e1 : sp.toNatClampNeg = k1) (e2 : dp.toNatClampNeg = k2) (e3 : n.toNatClampNeg = k3)
    (hel : ∀ i : Nat, i < k3 → ∃ (qk y : Nat) (vs : List Value), ws[qk]? = some (y, .inr (ci, vs)) ∧ f (k1 + i) = some y)
    (hframes : 1 ≤ R.frames) (hlocals : (rest.map fun v => v.category).sum + (nativeFrameWords "java/lang/System" "arraycopy" 5 + 11) ≤ R.locals) (hdg : decode cc pc = .ok (.invokestatic index, 3))
    {g : Nat → Option Nat} (hg : ∀ j, j < n0 → va_cpy f f k1 k2 k3 j = g j)
    (kk : ∀ (H1 : Heap) (locs1 : List Loc), va_P D cl (ws.set q0 (a, .inl (c0, n0, .inr (.inr (.inr (.inr g)))))) H1 → va_D A (ws.set q0 (a, .inl (c0, n0, .inr (.inr (.inr (.inr g)))))) → va_S A H0 H1 locs1 → W p l e R s m args below meth c H1 locs1 cells slots Q (F0 m (pc + 3) ls rest)) : W p l e R s m args below meth c H locs cells slots Q (F0 m pc ls (.int n :: .int dp :: .ref a :: .int sp :: .ref a :: rest)) := by
  subst e1 e2 e3
  have hlen := (List.getElem?_eq_some_iff.mp ha0).1
  refine va_copyq (C := r.1) hexec hb hml hown hlink hnat hstat hini hK hP hD hS q0 q0 t0 t0 ha0 ha0 ht0 ht0 h1 h2 h3 h4 h5 (fun i hi y hy => ?_) (fun comp c0 z1 z2 => ?_) hframes hlocals hdg (fun H1 locs1 h1 h2 h3 => kk H1 locs1 (va_P.setq hg hlen h1) (va_D.setq hlen h2) h3)
  · obtain ⟨qk, y', vs, g1, g2⟩ := hel i hi
    rw [g2] at hy
    cases hy
    exact va_recv hK hP (ci := ci) (q0 := qk) hc g1
  · cases z1.symm.trans z2
    exact va_asg _ _
end ZQ2
/-! sheets: their rows -/
abbrev ay (G : GT) (a n : Nat) (f : Nat → Int32) : Nat × va_E := (a, .inl (G.2 3, n, .inl f))
abbrev ah (G : GT) (a n : Nat) (f : Nat → Int32) : Nat × va_E := (a, .inl (G.2 4, n, .inl f))
abbrev arf (G : GT) (a ty n : Nat) (f : Nat → Option Nat) : Nat × va_E := (a, .inl (G.2 ty, n, .inr (.inr (.inr (.inr f)))))
section ZS
variable {p : Program} {l : Launch} {e : Env} {R : Room} {s : State} {m : MethodId} {args : Array Value} {below : List Frame} {meth : Method} {c : Code} {H : Heap} {locs : List Loc} {cells slots : Nat} {Q : State → Prop}
variable {cc : ByteArray} {pc : Nat} {ls : Array Slot} {rest : List Value} {D : va_G} {cl : List vw_C} {A : Nat → Prop} {a : Nat} {tys : List (ClassId × FieldType)} {ws : va_W} {H0 : Heap}
theorem va_RA.nm {cA : ClassId} {ty : FieldType} {nm : String} (h : va_RA s cA ty) (hp : (match ty with | .object _ => false | _ => true) = true) (e : "[" ++ ty.toString = nm) : s.vm.findClass nm = some cA := by
  subst e
  cases ty with
  | object C => simp at hp
  | _ => exact h
theorem z_instA {own nm : String} {index : Nat} (hexec : p.tables.exec = Jvm.exec) (hb : c.code = cc) (hown : s.vm.findClass own = some m.cls) (hlink : (Cond.classLink own index nm).before args s = true) (hP : va_P D cl ws H) (q0 : Nat) {cA : ClassId} {x : vp_A} (ha : ws[q0]? = some (a, .inl (cA, x))) (hnm : s.vm.findClass nm = some cA) (hdg : decode cc pc = .ok (.instanceof index, 3))
    (k : W p l e R s m args below meth c H locs cells slots Q (F0 m (pc + 3) ls (.int 1 :: rest))) : W p l e R s m args below meth c H locs cells slots Q (F0 m pc ls (.ref a :: rest)) := by
  refine va_instE hexec hb hown hlink ⟨vp_cell cA x, hP q0 _ ha, ?_, ?_⟩ hdg k
  · unfold vp_cell; split <;> rfl
  · rw [hnm]; unfold vp_cell; split <;> rfl
theorem z_instB {own nm C : String} {index : Nat} (hexec : p.tables.exec = Jvm.exec) (hb : c.code = cc) (hown : s.vm.findClass own = some m.cls) (hlink : (Cond.classLink own index nm).before args s = true) (hP : va_P D cl ws H) (q0 : Nat) {cA : ClassId} {x : vp_A} (ha : ws[q0]? = some (a, .inl (cA, x))) (hnm : s.vm.findClass C = some cA) (hc : va_Nc C nm s) (hdg : decode cc pc = .ok (.instanceof index, 3))
    (k : W p l e R s m args below meth c H locs cells slots Q (F0 m (pc + 3) ls (.int 0 :: rest))) : W p l e R s m args below meth c H locs cells slots Q (F0 m pc ls (.ref a :: rest)) := by
  refine va_instNo hexec hb hown hlink hc ⟨vp_cell cA x, hP q0 _ ha, ?_, ?_⟩ hdg k
  · unfold vp_cell; split <;> rfl
  · rw [hnm]; unfold vp_cell; split <;> rfl
theorem z_bald (hexec : p.tables.exec = Jvm.exec) (hb : c.code = cc) (hK : va_K D cl tys s) (hP : va_P D cl ws H) (q0 t0 : Nat) {cA : ClassId} {n : Nat} {f : Nat → Int32} (ha : ws[q0]? = some (a, .inl (cA, n, .inl f))) (ht : tys[t0]? = some (cA, .byte)) {i : Int32} (hin : vp_in i n) (hdg : decode cc pc = .ok (.baload, 1)) {k : Nat} (hk : i.toNatClampNeg = k)
    (kk : W p l e R s m args below meth c H locs cells slots Q (F0 m (pc + 1) ls (.int (f k) :: rest))) : W p l e R s m args below meth c H locs cells slots Q (F0 m pc ls (.int i :: .ref a :: rest)) := by
  subst hk
  exact va_bald hexec hb hK hP q0 t0 ha ht hin hdg kk
theorem z_sald (hexec : p.tables.exec = Jvm.exec) (hb : c.code = cc) (hK : va_K D cl tys s) (hP : va_P D cl ws H) (q0 t0 : Nat) {cA : ClassId} {n : Nat} {f : Nat → Int32} (ha : ws[q0]? = some (a, .inl (cA, n, .inl f))) (ht : tys[t0]? = some (cA, .short)) {i : Int32} (hin : vp_in i n) (hdg : decode cc pc = .ok (.saload, 1)) {k : Nat} (hk : i.toNatClampNeg = k)
    (kk : W p l e R s m args below meth c H locs cells slots Q (F0 m (pc + 1) ls (.int (f k) :: rest))) : W p l e R s m args below meth c H locs cells slots Q (F0 m pc ls (.int i :: .ref a :: rest)) := by
  subst hk
  exact va_sald hexec hb hK hP q0 t0 ha ht hin hdg kk
theorem z_bast (hexec : p.tables.exec = Jvm.exec) (hb : c.code = cc) (hK : va_K D cl tys s) (hP : va_P D cl ws H) (hD : va_D A ws) (hS : va_S A H0 H locs) (q0 t0 : Nat) {cA : ClassId} {n : Nat} {f : Nat → Int32} (ha : ws[q0]? = some (a, .inl (cA, n, .inl f))) (ht : tys[t0]? = some (cA, .byte)) {i : Int32} {x : Int32} (hin : vp_in i n) (hdg : decode cc pc = .ok (.bastore, 1)) {k : Nat} (hk : i.toNatClampNeg = k)
    (kk : ∀ (f' : Nat → Int32), f' = upd f k (vp_nar .byte x) → ∀ (H1 : Heap) (locs1 : List Loc), va_P D cl (ws.set q0 (a, .inl (cA, n, .inl f'))) H1 → va_D A (ws.set q0 (a, .inl (cA, n, .inl f'))) → va_S A H0 H1 locs1 → W p l e R s m args below meth c H1 locs1 cells slots Q (F0 m (pc + 1) ls rest)) : W p l e R s m args below meth c H locs cells slots Q (F0 m pc ls (.int x :: .int i :: .ref a :: rest)) := by
  subst hk
  exact va_bast hexec hb hK hP hD hS q0 t0 ha ht hin hdg (kk _ rfl)
theorem z_sast (hexec : p.tables.exec = Jvm.exec) (hb : c.code = cc) (hK : va_K D cl tys s) (hP : va_P D cl ws H) (hD : va_D A ws) (hS : va_S A H0 H locs) (q0 t0 : Nat) {cA : ClassId} {n : Nat} {f : Nat → Int32} (ha : ws[q0]? = some (a, .inl (cA, n, .inl f))) (ht : tys[t0]? = some (cA, .short)) {i : Int32} {x : Int32} (hin : vp_in i n) (hdg : decode cc pc = .ok (.sastore, 1)) {k : Nat} (hk : i.toNatClampNeg = k)
    (kk : ∀ (f' : Nat → Int32), f' = upd f k (vp_nar .short x) → ∀ (H1 : Heap) (locs1 : List Loc), va_P D cl (ws.set q0 (a, .inl (cA, n, .inl f'))) H1 → va_D A (ws.set q0 (a, .inl (cA, n, .inl f'))) → va_S A H0 H1 locs1 → W p l e R s m args below meth c H1 locs1 cells slots Q (F0 m (pc + 1) ls rest)) : W p l e R s m args below meth c H locs cells slots Q (F0 m pc ls (.int x :: .int i :: .ref a :: rest)) := by
  subst hk
  exact va_sast hexec hb hK hP hD hS q0 t0 ha ht hin hdg (kk _ rfl)
theorem z_aaldS (hexec : p.tables.exec = Jvm.exec) (hb : c.code = cc) (hK : va_K D cl tys s) (hP : va_P D cl ws H) (q0 t0 : Nat) {cA : ClassId} {C : String} {n : Nat} {f : Nat → Option Nat} (ha : ws[q0]? = some (a, .inl (cA, n, .inr (.inr (.inr (.inr f)))))) (ht : tys[t0]? = some (cA, .object C)) {i : Int32} (hin : vp_in i n) (hdg : decode cc pc = .ok (.aaload, 1)) {y : Nat} (hy : f i.toNatClampNeg = some y)
    (kk : W p l e R s m args below meth c H locs cells slots Q (F0 m (pc + 1) ls (.ref y :: rest))) : W p l e R s m args below meth c H locs cells slots Q (F0 m pc ls (.int i :: .ref a :: rest)) := by
  refine va_aldq hexec hb hK hP q0 t0 ha ht hin hdg ?_
  rw [hy]
  exact kk
end ZS
