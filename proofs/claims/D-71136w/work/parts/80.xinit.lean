/-! what constructors need: statics of Throwable as values, arrays of references that are filled one by one -/
set_option maxRecDepth 100000
abbrev rlo (l : List (Option Nat)) : Nat → Option Nat := fun i => (l[i]?).getD none
def gAO (U : State) : Prop := va_AO "BattleBench$Plain" U ∧ va_AO "BattleBench$Bench" U ∧ va_AO "BattleBench$Sheet" U
theorem gAO.moved {u U : State} (hvm : u.vm.Alike U.vm) (h : gAO u) : gAO U := ⟨h.1.moved hvm, h.2.1.moved hvm, h.2.2.moved hvm⟩
theorem gK.nw {G : GT} {s : State} {w : Cond} (h : gK G s) (hm : w ∈ lw_tbl) (hn : (nestWord w && w.onTables) = true) : va_Nw w s := h.2.1 w (gNest_in hm hn)
theorem st_Z {aS : Nat} {s : State} {A : Nat → Prop} {n d : String} {c : ClassId} {k : Class} (hl : (Cond.laysStatic Bundle.tN n d).before #[] s = true) (hr : (Cond.isRef (.static Bundle.tN n d)).before #[] s = true) (hc : s.vm.findClass Bundle.tN = some c) (hk : s.vm.classes[c]? = some k) (hs : k.statics = some aS) (hini : (Cond.initialized Bundle.tN).before #[] s = true) (hA : ¬ A aS) : ∃ v : Value, (v = .null ∨ ∃ a, v = .ref a) ∧ va_Z Bundle.tN n d v A s s.heap := by
  obtain ⟨c1, k1, i, f, a, cell, hc1, hi, hst, ha, hcell, hss, hcls, hlt, hty⟩ := Cond.laysStatic_spec hl
  cases hc.symm.trans hc1
  cases hk.symm.trans (State.fieldFound?_spec hi).1
  cases hs.symm.trans ha
  obtain ⟨w, hw⟩ := Cond.staticRefV hi hst ha hcell hss hr
  refine ⟨w.v, ?_, ⟨c, k, i, f, aS, cell, hi, hst, Cond.initialized_spec hc hk hini, ha, hcell, hss, hw, hA⟩⟩
  obtain ⟨v, hv⟩ := w
  cases v <;> simp [Value.isRef] at hv ⊢
theorem stS.Z {aS : Nat} {s : State} {A : Nat → Prop} (h : stS aS s) (hini : (Cond.initialized Bundle.tN).before #[] s = true) (hns : ∀ (q : Nat) (cell : Cell), A q → s.heap[q]? = some cell → cell.vm.isStatics = false) :
    (∃ v : Value, (v = .null ∨ ∃ a, v = .ref a) ∧ va_Z Bundle.tN "UNASSIGNED_STACK" Bundle.steD v A s s.heap) ∧ (∃ v : Value, (v = .null ∨ ∃ a, v = .ref a) ∧ va_Z Bundle.tN "SUPPRESSED_SENTINEL" Bundle.listD v A s s.heap) := by
  have hA := h.notIn hns
  obtain ⟨⟨w1, w2, w3, w4⟩, c, k, cell, h1, h2, h3, h4, h5⟩ := h
  exact ⟨st_Z w1 w3 h1 h2 h3 hini hA, st_Z w2 w4 h1 h2 h3 hini hA⟩
section ZI
variable {p : Program} {l : Launch} {e : Env} {R : Room} {s : State} {m : MethodId} {args : Array Value} {below : List Frame} {meth : Method} {c : Code} {H : Heap} {locs : List Loc} {cells slots : Nat} {Q : State → Prop}
variable {cc : ByteArray} {pc : Nat} {ls : Array Slot} {rest : List Value} {D : va_G} {cl : List vw_C} {A : Nat → Prop} {a : Nat} {tys : List (ClassId × FieldType)} {ws : va_W} {H0 : Heap}
theorem z_aastO (hexec : p.tables.exec = Jvm.exec) (hb : c.code = cc) (hK : va_K D cl tys s) (hP : va_P D cl ws H) (hD : va_D A ws) (hS : va_S A H0 H locs) (q0 t0 qk ci : Nat) {E : String} {cA : ClassId} {r : vw_C} {n v : Nat} {vs : List Value} {f : Nat → Option Nat} (ha : ws[q0]? = some (a, .inl (cA, n, .inr (.inr (.inr (.inr f)))))) (ht : tys[t0]? = some (cA, .object E)) (hca : va_Nw (.castable r.1 E) s) (hv : ws[qk]? = some (v, .inr (ci, vs))) (hc : cl[ci]? = some r) {i : Int32} (hin : vp_in i n) (hdg : decode cc pc = .ok (.aastore, 1)) {k : Nat} (hk : i.toNatClampNeg = k)
    {g : Nat → Option Nat} (hg : ∀ j, j < n → va_up f k (some v) j = g j)
    (kk : ∀ (H1 : Heap) (locs1 : List Loc), va_P D cl (ws.set q0 (a, .inl (cA, n, .inr (.inr (.inr (.inr g)))))) H1 → va_D A (ws.set q0 (a, .inl (cA, n, .inr (.inr (.inr (.inr g)))))) → va_S A H0 H1 locs1 → W p l e R s m args below meth c H1 locs1 cells slots Q (F0 m (pc + 1) ls rest)) : W p l e R s m args below meth c H locs cells slots Q (F0 m pc ls (.ref v :: .int i :: .ref a :: rest)) := by
  subst hk
  have hlen := (List.getElem?_eq_some_iff.mp ha).1
  exact va_astqO hexec hb hK hP hD hS q0 t0 qk ci ha ht hca hv hc hin hdg (fun H1 locs1 h1 h2 h3 => kk H1 locs1 (va_P.setq hg hlen h1) (va_D.setq hlen h2) h3)
end ZI
theorem rlo_none (n : Nat) : (fun _ => none : Nat → Option Nat) = rlo (List.replicate n none) := by
  funext i
  show none = ((List.replicate n none)[i]?).getD none
  rw [List.getElem?_replicate]
  split <;> rfl
theorem z_narR {v : Value} (h : v = .null ∨ ∃ a, v = .ref a) {t : FieldType} : narrow t v = v := by
  rcases h with rfl | ⟨a, rfl⟩ <;> cases t <;> rfl
theorem z_fitR {v : Value} (h : v = .null ∨ ∃ a, v = .ref a) {t : FieldType} (ht : refKind t = true := by rfl) : fits t v = true := by
  rcases h with rfl | ⟨a, rfl⟩ <;> cases t <;> first | rfl | (cases ht)
theorem nw_of {args : Array Value} {s : State} (hts : ∀ w ∈ lw_all, w.before args s = true) {w : Cond} (h : w ∈ lw_all) (ho : w.onTables = true := by rfl) : w.before #[] s = true := va_tabs ho rfl (hts w h)
theorem stS.at2 {aS : Nat} {s : State} {A : Nat → Prop} {H : Heap} {locs : List Loc} (h : stS aS s) (hns : ∀ (q : Nat) (cell : Cell), A q → s.heap[q]? = some cell → cell.vm.isStatics = false) (hS : va_S A s.heap H locs) {U : State} (hU : U.heap = H) (hW : s.WarmedH U.vm) : stS aS U :=
  stS.moved hW.alike (by rw [hU]; exact hS.2.1 aS h.lt (h.notIn hns)) h
