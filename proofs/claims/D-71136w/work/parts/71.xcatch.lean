/-! handlers: the rows of a method's table that are passed, the row that catches; their classes may be resolved here for the first time -/
set_option maxRecDepth 100000
/-- a row that covers the place and names a class that the thrown one isn't of -/
def xPass (pl : Platform) (s₀ : State) (d : ClassId) (pc : Nat) (thrown : ClassId) (y : ExceptionTableEntry) : Prop :=
  covers y pc = true ∧ y.catchType ≠ 0 ∧ ∃ cy, s₀.vm.ClassLinks pl d y.catchType cy ∧ s₀.vm.assignable thrown cy = false
section XC
variable {e : Env} {f : JFrame} {a : Addr} {s₀ : State} {cell : Cell}
theorem x_goHit {S : State} {Q : Handler → Pre} {E : CtlPost} {d : Bool} {acts : List Action} {x : ExceptionTableEntry} {t : List ExceptionTableEntry} {cx : ClassId} (hx : covers x f.pc = true) (h0 : x.catchType ≠ 0) (hl : S.vm.ClassLinks e.platform f.method.cls x.catchType cx) (hcell : S.heap[a]? = some cell) (hobj : ∀ k, cell.vm ≠ .statics k) (hk : ∃ k, S.vm.classes[cell.cls]? = some k) (hc : ∃ k, S.vm.classes[cx]? = some k) (hfit : S.vm.assignable cell.cls cx = true) :
    wp (findHandler.go f a (x :: t)) Q E e d acts S ↔ Q (.found x.handlerPc) d acts (S.setVm (S.vm.noted f.method.cls x.catchType (.cls cx))) := by
  simp only [covers] at hx
  obtain ⟨ha, ht⟩ := (resolveClass_links e.toSetting hl).op (op := VmOp.resolveClass f.method.cls x.catchType) rfl
  have hal : S.vm.Alike (S.vm.noted f.method.cls x.catchType (.cls cx)) := (Vm.Alike.refl S.vm).noted _ _ _
  obtain ⟨k1, hk1⟩ := hk
  obtain ⟨k2, hk2⟩ := hc
  obtain ⟨k1', hk1', -⟩ := hal.2.2 _ _ hk1
  obtain ⟨k2', hk2', -⟩ := hal.2.2 _ _ hk2
  have hfit' : (S.vm.noted f.method.cls x.catchType (.cls cx)).assignable cell.cls cx = true := by rw [hal.assignable]; exact hfit
  simp [findHandler.go, hx, h0, ha, ht, hcell, hobj, hk1', hk2', hfit', VmOp.dirties, VmOp.acts]
theorem x_goPass {S : State} {Q : Handler → Pre} {E : CtlPost} {d : Bool} {acts : List Action} {x : ExceptionTableEntry} {t : List ExceptionTableEntry} {cx : ClassId} (hx : covers x f.pc = true) (h0 : x.catchType ≠ 0) (hl : S.vm.ClassLinks e.platform f.method.cls x.catchType cx) (hcell : S.heap[a]? = some cell) (hobj : ∀ k, cell.vm ≠ .statics k) (hk : ∃ k, S.vm.classes[cell.cls]? = some k) (hc : ∃ k, S.vm.classes[cx]? = some k) (hfit : S.vm.assignable cell.cls cx = false) :
    wp (findHandler.go f a (x :: t)) Q E e d acts S ↔ wp (findHandler.go f a t) Q E e d acts (S.setVm (S.vm.noted f.method.cls x.catchType (.cls cx))) := by
  simp only [covers] at hx
  obtain ⟨ha, ht⟩ := (resolveClass_links e.toSetting hl).op (op := VmOp.resolveClass f.method.cls x.catchType) rfl
  have hal : S.vm.Alike (S.vm.noted f.method.cls x.catchType (.cls cx)) := (Vm.Alike.refl S.vm).noted _ _ _
  obtain ⟨k1, hk1⟩ := hk
  obtain ⟨k2, hk2⟩ := hc
  obtain ⟨k1', hk1', -⟩ := hal.2.2 _ _ hk1
  obtain ⟨k2', hk2', -⟩ := hal.2.2 _ _ hk2
  have hfit' : (S.vm.noted f.method.cls x.catchType (.cls cx)).assignable cell.cls cx = false := by rw [hal.assignable]; exact hfit
  simp [findHandler.go, hx, h0, ha, ht, hcell, hobj, hk1', hk2', hfit', VmOp.dirties, VmOp.acts]
theorem x_go (hobj : cell.vm.isStatics = false) (hk0 : ∃ k, s₀.vm.classes[cell.cls]? = some k) (x : ExceptionTableEntry) (rest : List ExceptionTableEntry) (hx : covers x f.pc = true) (h0 : x.catchType ≠ 0) {cx : ClassId} (hl : s₀.vm.ClassLinks e.platform f.method.cls x.catchType cx) (hfit : s₀.vm.assignable cell.cls cx = true) :
    ∀ (pre : List ExceptionTableEntry), (∀ y ∈ pre, xPass e.platform s₀ f.method.cls f.pc cell.cls y) → ∀ S : State, s₀.WarmedH S.vm → S.heap[a]? = some cell →
      ∃ vm', s₀.WarmedH vm' ∧ ∀ (Q : Handler → Pre) (E : CtlPost) (d : Bool) (acts : List Action), wp (findHandler.go f a (pre ++ x :: rest)) Q E e d acts S ↔ Q (.found x.handlerPc) d acts (S.setVm vm')
  | [], _, S, hW, hcell => by
    obtain ⟨k0, hk0⟩ := hk0
    obtain ⟨k0', hk0', -⟩ := hW.alike.2.2 _ _ hk0
    obtain ⟨dk, _, _, kt, hd, _, _, _, _, hkt, _, hopen⟩ := hl.here
    obtain ⟨kt', hkt', -⟩ := hW.alike.2.2 _ _ hkt
    exact ⟨_, hW.noted hd hopen (State.rightAt_cls hl), fun Q E d acts => x_goHit hx h0 (hW.classLinks hl) hcell (VmData.ne_statics_of hobj) ⟨k0', hk0'⟩ ⟨kt', hkt'⟩ (by rw [hW.alike.assignable]; exact hfit)⟩
  | y :: pre, hp, S, hW, hcell => by
    obtain ⟨hy, hy0, cy, hly, hno⟩ := hp y List.mem_cons_self
    obtain ⟨k0, hk1⟩ := hk0
    obtain ⟨k0', hk0', -⟩ := hW.alike.2.2 _ _ hk1
    obtain ⟨dk, _, _, kt, hd, _, _, _, _, hkt, _, hopen⟩ := hly.here
    obtain ⟨kt', hkt', -⟩ := hW.alike.2.2 _ _ hkt
    have hW' := hW.noted hd hopen (State.rightAt_cls hly)
    obtain ⟨vm', h1, h2⟩ := x_go hobj ⟨k0, hk1⟩ x rest hx h0 hl hfit pre (fun z hz => hp z (List.mem_cons_of_mem _ hz)) (S.setVm (S.vm.noted f.method.cls y.catchType (.cls cy))) hW' hcell
    refine ⟨vm', h1, fun Q E d acts => ?_⟩
    rw [List.cons_append, x_goPass hy hy0 (hW.classLinks hly) hcell (VmData.ne_statics_of hobj) ⟨k0', hk0'⟩ ⟨kt', hkt'⟩ (by rw [hW.alike.assignable]; exact hno)]
    exact h2 Q E d acts
end XC
theorem x_stepCatch {e : Env} {s : State} {a : Addr} {f : JFrame} {r : List Frame} {pc : Nat} {vm' : Vm} (hfind : ∀ (Q : Handler → Pre) (E : CtlPost) (d : Bool) (acts : List Action), wp (findHandler f a) Q E e d acts s ↔ Q (.found pc) d acts (s.setVm vm')) :
    (stepThrowing e s a (.java f :: r)).Is ((s.setVm vm').setFrames (.java { f with pc := pc, stack := [.ref a] } :: r)) [] := by
  simp only [stepThrowing, searchFrame, vmDo]
  generalize hr : Sem.go _ e false [] s = res
  obtain ⟨as, rfl, ha⟩ := Sem.eq_ok_of hr (a := Handler.found pc) (s' := s.setVm vm') (acts' := []) (by simp [hfind _ _ _ _])
  exact ⟨rfl, ha⟩
section XD
variable {p : Program} {l : Launch} {e : Env} {R : Room} {s : State} {m : MethodId} {args : Array Value} {below : List Frame} {meth : Method} {c : Code} {H : Heap} {locs : List Loc} {cells slots : Nat} {Q : State → Prop}
/-- caught: the walk goes on at the handler, the thrown reference alone on the stack -/
theorem wx_catch {pc : Nat} {ls : Array Slot} {st : List Value} {x : Addr} {cell : Cell} (hcell : H[x]? = some cell) (hobj : cell.vm.isStatics = false)
    (pre : List ExceptionTableEntry) (y : ExceptionTableEntry) (rest : List ExceptionTableEntry) (hsplit : c.exceptionTable.toList = pre ++ y :: rest) (hpass : ∀ pl : Platform, pl.magicAccessors = ({} : Platform).magicAccessors → ∀ z ∈ pre, xPass pl s m.cls pc cell.cls z) (hx : covers y pc = true) (h0 : y.catchType ≠ 0)
    {own name : String} (hown : s.vm.findClass own = some m.cls) (hlink : (Cond.classLink own y.catchType name).before args s = true) {cT : ClassId} (hcT : s.vm.findClass name = some cT) (hfit : s.vm.assignable cell.cls cT = true)
    (k : W p l e R s m args below meth c H locs cells slots Q (F0 m y.handlerPc ls [.ref x])) : WX p l e R s m args below meth c H locs cells slots Q (F0 m pc ls st) x := by
  intro T hT X
  have hpl : e.platform.magicAccessors = ({} : Platform).magicAccessors := by rw [X.admits.platform]
  obtain ⟨c', hc', hcl⟩ := Cond.classLink_spec hown hlink e.platform hpl
  cases hcT.symm.trans hc'
  obtain ⟨dk, _, _, kt, hd, _, _, _, _, hkt, _, hopen⟩ := hcl.here
  have hk0 := Vm.classAt_of_assignable hfit ⟨kt, hkt⟩
  obtain ⟨vm', hW', hfind⟩ := x_go (e := e) (f := F0 m pc ls st) (a := x) (s₀ := s) (cell := cell) hobj hk0 y rest hx h0 hcl hfit pre (hpass e.platform hpl) ((T.setTop (F0 m pc ls st)).pushFrame (.throwing x)) X.warmed (by show T.heap[x]? = _; rw [hT]; exact hcell)
  have X' := X.noted hW'
  obtain ⟨t, h1, h2⟩ := k (T.setVm vm') hT X'
  refine ⟨t, ?_, h2⟩
  have hAt : At T (F0 m pc ls st).method c below := X.here
  obtain ⟨hgo, hw⟩ := hAt.throwing x
  refine Steps.head hgo hw ?_
  rw [stepThread_throwing (frames_entered hAt.top _), (x_stepCatch (s := (T.setTop (F0 m pc ls st)).pushFrame (.throwing x)) (f := F0 m pc ls st) (r := T.frames.tail) (pc := y.handlerPc) (vm' := vm') (fun Q E d acts => by
    rw [Jvm.W.findHandler_eq (meth := meth) (code := c) X.method' X.code, hsplit]
    exact hfind Q E d acts)).1]
  obtain ⟨g₀, hg⟩ := X.frames_eq
  have hr' : (T.setVm vm').frames = .java g₀ :: below := hg
  rw [State.setTop_of_frames _ hr'] at h1
  have e1 : (((T.setTop (F0 m pc ls st)).pushFrame (.throwing x)).setVm vm').setFrames (Frame.java { (F0 m pc ls st) with pc := y.handlerPc, stack := [.ref x] } :: T.frames.tail) = (T.setVm vm').setFrames (Frame.java (F0 m y.handlerPc ls [.ref x]) :: below) := by
    have q1 : ∀ (u : State) (F G : List Frame), ((u.setFrames F).setVm vm').setFrames G = (u.setVm vm').setFrames G := by
      intro u F G
      have h9 : (u.setFrames F).setVm vm' = (u.setVm vm').setFrames F := rfl
      rw [h9, State.setFrames_setFrames]
    rw [X.tail, State.pushFrame, q1, State.setTop_of_frames _ hg, q1]
  rw [e1]
  exact h1
end XD
theorem x_rows {l : List ExceptionTableEntry} {hs : List (Nat × Nat × Nat × Nat)} (h : l.map (fun h => (h.startPc, h.endPc, h.handlerPc, h.catchType)) = hs) : l = hs.map (fun q => ⟨q.1, q.2.1, q.2.2.1, q.2.2.2⟩) := by
  rw [← h, List.map_map]
  have e : ((fun q : Nat × Nat × Nat × Nat => (⟨q.1, q.2.1, q.2.2.1, q.2.2.2⟩ : ExceptionTableEntry)) ∘ fun h : ExceptionTableEntry => (h.startPc, h.endPc, h.handlerPc, h.catchType)) = id := rfl
  rw [e, List.map_id]
theorem x_hand {p : Program} {l : Launch} {x : MethodName} {S : Spec} {code : ByteArray} {maxLocals : Nat} {ret : Option FieldType} {e : Env} {s : State} {m : MethodId} {args : Array Value} {below : List Frame} {meth : Method} {c : Code} {s₁ : State} {hh : List (Nat × Nat × Nat × Nat)}
    (B : BodyLoose p l x S code maxLocals ret e s m args below meth c s₁) (h : (Cond.codeWith x code maxLocals ret hh).before args s = true) : c.exceptionTable.toList = hh.map (fun q => ⟨q.1, q.2.1, q.2.2.1, q.2.2.2⟩) := by
  obtain ⟨m', meth', c', hn', hm', hc', -, -, he', -, -, -⟩ := Cond.codeWith_spec h
  cases B.named.symm.trans hn'
  cases B.method.symm.trans hm'
  cases (Stand.of_body B).code.symm.trans hc'
  exact x_rows he'
theorem vm_refl {s : State} {args : Array Value} {C : String} {cc : ClassId} (h : (Cond.castable C C).before args s = true) (hc : s.vm.findClass C = some cc) : s.vm.assignable cc cc = true := by
  obtain ⟨c3, c4, h3, h4, hasg⟩ := Cond.castable_spec h
  cases h3.symm.trans hc
  cases h4.symm.trans hc
  exact hasg
