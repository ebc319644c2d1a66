/-! System.arraycopy that throws -/
set_option maxRecDepth 100000
def xcNull : Sem (Option Value) := do
  mark "nat.java_lang_System.arraycopy/null"
  throwNew "java/lang/NullPointerException"
theorem xc_e1 (sp dp n : Int32) : Native.java_lang_System.arraycopy.sem #[.null, .int sp, .null, .int dp, .int n] = xcNull := rfl
theorem xc_e2 (x : Addr) (sp dp n : Int32) : Native.java_lang_System.arraycopy.sem #[.null, .int sp, .ref x, .int dp, .int n] = xcNull := rfl
theorem xc_e3 (x : Addr) (sp dp n : Int32) : Native.java_lang_System.arraycopy.sem #[.ref x, .int sp, .null, .int dp, .int n] = xcNull := rfl
section XCW
variable {Q : Option Value → Pre} {E : CtlPost} {e : Env} {d : Bool} {acts : List Action} {s : State}
theorem xc_nullW (hE : ∀ acts', E (.throwNew "java/lang/NullPointerException" none) acts' s) : wp xcNull Q E e d acts s := by
  unfold xcNull
  simp only [wp_bind', W.mark]
  exact ⟨rfl, by cases d <;> rfl, hE _⟩
theorem xc_null {a b : Option Nat} {sp dp n : Int32} (hn : a = none ∨ b = none)
    (hE : ∀ acts', E (.throwNew "java/lang/NullPointerException" none) acts' s) : wp (Native.java_lang_System.arraycopy.sem #[va_rf a, .int sp, va_rf b, .int dp, .int n]) Q E e d acts s := by
  cases a <;> cases b
  · exact (xc_e1 sp dp n) ▸ xc_nullW hE
  · exact (xc_e2 _ sp dp n) ▸ xc_nullW hE
  · exact (xc_e3 _ sp dp n) ▸ xc_nullW hE
  · rcases hn with h | h <;> cases h
def xcKind (sT dT : FieldType) : String := (toString "arraycopy: type mismatch: can not copy " ++ toString (Native.java_lang_System.arraycopy.kindName sT) ++ toString "[] into " ++ toString (Native.java_lang_System.arraycopy.kindName dT) ++ toString "[]")
theorem xc_type {src dst : Addr} {sp dp n : Int32} {cs cd : Cell} {ks kd : Class} {sC dC : ClassId} {sT dT : FieldType}
    (hs : s.heap[src]? = some cs) (hd : s.heap[dst]? = some cd) (hsobj : ∀ k, cs.vm ≠ .statics k) (hdobj : ∀ k, cd.vm ≠ .statics k)
    (hks : s.vm.classes[cs.cls]? = some ks) (hkd : s.vm.classes[cd.cls]? = some kd) (hsk : ks.kind = .array sC sT) (hdk : kd.kind = .array dC dT)
    (hty : ((refKind sT != refKind dT) || (!refKind sT && sT != dT)) = true)
    (hE : ∀ acts', E (.throwNew "java/lang/ArrayStoreException" (some (xcKind sT dT))) acts' s) : wp (Native.java_lang_System.arraycopy.sem #[.ref src, .int sp, .ref dst, .int dp, .int n]) Q E e d acts s := by
  rw [Native.java_lang_System.arraycopy.sem_refs]
  unfold Native.java_lang_System.arraycopy.behind
  simp only [wp_bind', W.classOf, W.theClass, hs, hd, hks, hkd, Option.some.injEq, exists_eq_left', hsk, hdk]
  refine ⟨hsobj, hdobj, ?_⟩
  unfold refKind at hty
  simp only [hty, if_true]
  simp only [wp_bind', W.mark]
  exact ⟨rfl, by cases d <;> rfl, hE _⟩
def xcWhat (sT : FieldType) (sp dp n : Int32) (sL dL : Nat) : Option String :=
  if sp < 0 then some (toString "source index " ++ toString sp ++ toString " out of bounds for " ++ toString (toString (Native.java_lang_System.arraycopy.kindName sT) ++ toString "[" ++ toString sL ++ toString "]"))
  else if dp < 0 then some (toString "destination index " ++ toString dp ++ toString " out of bounds for " ++ toString (toString (Native.java_lang_System.arraycopy.kindName sT) ++ toString "[" ++ toString dL ++ toString "]"))
  else if n < 0 then some (toString "length " ++ toString n ++ toString " is negative")
  else if sp.toInt + n.toInt > sL then some (toString "last source index " ++ toString (sp.toInt + n.toInt) ++ toString " out of bounds for " ++ toString (toString (Native.java_lang_System.arraycopy.kindName sT) ++ toString "[" ++ toString sL ++ toString "]"))
  else if dp.toInt + n.toInt > dL then some (toString "last destination index " ++ toString (dp.toInt + n.toInt) ++ toString " out of bounds for " ++ toString (toString (Native.java_lang_System.arraycopy.kindName sT) ++ toString "[" ++ toString dL ++ toString "]"))
  else none
theorem xc_out {src dst : Addr} {sp dp n : Int32} {cs cd : Cell} {ks kd : Class} {sC dC : ClassId} {sT : FieldType} {what : String}
    (hs : s.heap[src]? = some cs) (hd : s.heap[dst]? = some cd) (hsobj : ∀ k, cs.vm ≠ .statics k) (hdobj : ∀ k, cd.vm ≠ .statics k)
    (hks : s.vm.classes[cs.cls]? = some ks) (hkd : s.vm.classes[cd.cls]? = some kd) (hsk : ks.kind = .array sC sT) (hdk : kd.kind = .array dC sT)
    (hw : xcWhat sT sp dp n cs.slots.size cd.slots.size = some what)
    (hE : ∀ acts', E (.throwNew "java/lang/ArrayIndexOutOfBoundsException" (some ("arraycopy: " ++ what))) acts' s) : wp (Native.java_lang_System.arraycopy.sem #[.ref src, .int sp, .ref dst, .int dp, .int n]) Q E e d acts s := by
  have hty : ((refKind sT != refKind sT) || (!refKind sT && sT != sT)) = false := by simp
  rw [Native.java_lang_System.arraycopy.sem_refs]
  unfold Native.java_lang_System.arraycopy.behind
  simp only [wp_bind', W.classOf, W.theClass, hs, hd, hks, hkd, Option.some.injEq, exists_eq_left', hsk, hdk]
  refine ⟨hsobj, hdobj, ?_⟩
  unfold refKind at hty
  simp only [hty, Bool.false_eq_true, if_false]
  simp only [wp_bind', W.sizeOf, hs, hd, Option.some.injEq, exists_eq_left']
  unfold xcWhat at hw
  simp only [hw, wp_bind', W.mark]
  exact ⟨rfl, by cases d <;> rfl, hE _⟩
end XCW
/-! the texts -/
theorem x_kind : ∀ t : FieldType, (Native.java_lang_System.arraycopy.kindName t).toList.length ≤ 12 := by
  intro t
  cases t <;> first | decide | (show "object array".toList.length ≤ 12; decide)
theorem x_byText {t : String} {c : Char} {r : List Char} (h : t.toList = c :: r) (hc : c ≠ '\u0000') : (t == notModelled) = false := by
  rw [beq_eq_false_iff_ne]
  intro e
  have h2 := congrArg String.toList e
  have h4 : notModelled.toList = '\u0000' :: " a message that is not modelled".toList := by decide
  rw [h, h4] at h2
  exact hc (List.cons.inj h2).1
theorem x_bytes {t : String} (h : t.toList.length ≤ 250) : (stringBytes (stringToUtf16 t)).size ≤ 1000 := by
  have b1 := stringBytes_size_le (stringToUtf16 t)
  have b2 := utf16_size_le t
  omega
theorem xc_kindText (sT dT : FieldType) : (xcKind sT dT == notModelled) = false ∧ (stringBytes (stringToUtf16 (xcKind sT dT))).size ≤ 1000 := by
  have a1 := x_kind sT
  have a2 := x_kind dT
  have b1 : (toString "arraycopy: type mismatch: can not copy ").toList.length = 39 := by decide
  have b2 : (toString "[] into ").toList.length = 8 := by decide
  have b3 : (toString "[]").toList.length = 2 := by decide
  refine ⟨x_byText (c := 'a') (r := "rraycopy: type mismatch: can not copy ".toList ++ (Native.java_lang_System.arraycopy.kindName sT).toList ++ "[] into ".toList ++ (Native.java_lang_System.arraycopy.kindName dT).toList ++ "[]".toList) ?_ (by decide), x_bytes ?_⟩
  · unfold xcKind
    simp only [String.toList_append]
    rfl
  · unfold xcKind
    simp only [String.toList_append, List.length_append]
    have c1 : (toString (Native.java_lang_System.arraycopy.kindName sT)).toList.length ≤ 12 := a1
    have c2 : (toString (Native.java_lang_System.arraycopy.kindName dT)).toList.length ≤ 12 := a2
    omega
theorem x_intPrint {i : Int} (h1 : -(2 ^ 33 : Int) < i) (h2 : i < 2 ^ 33) : (toString i).toList.length ≤ 11 := by
  show (Int.repr i).toList.length ≤ 11
  cases i with
  | ofNat m =>
    have := nat_print (n := m) (by have h2' : (m : Int) < 2 ^ 33 := h2; omega)
    show (toString m).toList.length ≤ 11
    omega
  | negSucc m =>
    have h1' : -(2 : Int) ^ 33 < -((m : Int) + 1) := by simpa [Int.negSucc_eq] using h1
    have := nat_print (n := m.succ) (by omega)
    show ("-" ++ toString m.succ).toList.length ≤ 11
    rw [String.toList_append, List.length_append]
    have h0 : "-".toList.length = 1 := by decide
    omega
theorem xc_whatText {sT : FieldType} {sp dp n : Int32} {sL dL : Nat} (h1 : sL < 2 ^ 31) (h2 : dL < 2 ^ 31) {what : String} (h : xcWhat sT sp dp n sL dL = some what) : (("arraycopy: " ++ what) == notModelled) = false ∧ (stringBytes (stringToUtf16 ("arraycopy: " ++ what))).size ≤ 1000 := by
  have b0 : "arraycopy: ".toList.length = 11 := by decide
  have ak := x_kind sT
  have ck : (toString (Native.java_lang_System.arraycopy.kindName sT)).toList.length ≤ 12 := ak
  have p1 := nat_print (n := sL) (by omega)
  have p2 := nat_print (n := dL) (by omega)
  have p3 := int32_print sp
  have p4 := int32_print dp
  have p5 := int32_print n
  have i1 := Int32.toInt_lt sp
  have i2 := Int32.le_toInt sp
  have i3 := Int32.toInt_lt n
  have i4 := Int32.le_toInt n
  have i5 := Int32.toInt_lt dp
  have i6 := Int32.le_toInt dp
  have p6 := x_intPrint (i := sp.toInt + n.toInt) (by omega) (by omega)
  have p7 := x_intPrint (i := dp.toInt + n.toInt) (by omega) (by omega)
  have l1 : (toString "source index ").toList.length = 13 := by decide
  have l2 : (toString " out of bounds for ").toList.length = 19 := by decide
  have l3 : (toString "[").toList.length = 1 := by decide
  have l4 : (toString "]").toList.length = 1 := by decide
  have l5 : (toString "destination index ").toList.length = 18 := by decide
  have l6 : (toString "length ").toList.length = 7 := by decide
  have l7 : (toString " is negative").toList.length = 12 := by decide
  have l8 : (toString "last source index ").toList.length = 18 := by decide
  have l9 : (toString "last destination index ").toList.length = 23 := by decide
  have hw : what.toList.length ≤ 200 := by
    unfold xcWhat at h
    have tt : ∀ x : String, (toString x).toList = x.toList := fun _ => rfl
    split at h
    · cases h; simp only [tt, String.toList_append, List.length_append] at *; omega
    split at h
    · cases h; simp only [tt, String.toList_append, List.length_append] at *; omega
    split at h
    · cases h; simp only [tt, String.toList_append, List.length_append] at *; omega
    split at h
    · cases h; simp only [tt, String.toList_append, List.length_append] at *; omega
    split at h
    · cases h; simp only [tt, String.toList_append, List.length_append] at *; omega
    · cases h
  refine ⟨x_byText (c := 'a') (r := "rraycopy: ".toList ++ what.toList) ?_ (by decide), x_bytes ?_⟩
  · rw [String.toList_append]; rfl
  · rw [String.toList_append, List.length_append]; omega
/-! the native method's call -/
theorem xc_native {p : Program} {e : Env} {below : List Frame} {S target : State} {g : JFrame} {c : Code} (h : At S g.method c below) {m : MethodId} {meth : Method} {k : Class} {row : NativeRow} {args : Array Value} (acts : List Action)
    (hk : S.vm.classes[m.cls]? = some k) (hx : k.methods[m.idx]? = some meth) (hboot : k.loader = none) (hnat : meth.isNative = true) (hc : meth.code = none) (hl : meth.locks = false)
    (hrow : NativeRow.find? p.tables.natives k.name meth.name meth.desc = some row)
    (hroom : e.platform.stackFull (((S.setTop g).threads[(S.setTop g).cur]?).getD { frames := [] }) (S.setTop g).frames (nativeFrameWords k.name meth.name (operandWords args.toList)) = false)
    {cls : String} {msg : Option String}
    (hw : wpRun (row.sem (seenByNative meth args)) (fun _ _ _ => False) (fun x s₁ _ => x = .throwNew cls msg ∧ s₁ = (S.setTop g).pushFrame (.native { method := m, args := seenByNative meth args, locked := none })) e ((S.setTop g).pushFrame (.native { method := m, args := seenByNative meth args, locked := none })))
    (hrest : Steps p.tables e below (S.setFrames (.throwNew cls msg none :: .native { method := m, args := seenByNative meth args, locked := none } :: .java g :: S.frames.tail)) target) :
    Steps p.tables e below (doInvoke e (S.setTop g) acts m args).1 target := by
  have hm : (S.setTop g).vm.method? m = some meth := by
    show S.vm.method? m = some meth
    simp [Vm.method?, hk, hx]
  have hroom' : e.platform.stackFull (((S.setTop g).threads[(S.setTop g).cur]?).getD { frames := [] }) (S.setTop g).frames
      (nativeFrameWords ((((S.setTop g).vm.classes[m.cls]?).map (·.name)).getD "") meth.name (operandWords args.toList)) = false := by
    have : (((S.setTop g).vm.classes[m.cls]?).map (·.name)).getD "" = k.name := by
      show ((S.vm.classes[m.cls]?).map (·.name)).getD "" = k.name
      simp [hk]
    rw [this]; exact hroom
  rw [(Fast.doInvoke_native (s := S.setTop g) (e := e) (acts := acts) (args := args) hm hnat hc hl hroom').1]
  have hfe := frames_entered (g := g) h.top (.native { method := m, args := seenByNative meth args, locked := none })
  obtain ⟨mid, hmid⟩ := h.above
  refine Steps.head ⟨h.running, by simpa using h.runnable, by simpa using h.alone⟩
    ⟨.native { method := m, args := seenByNative meth args, locked := none } :: .java g :: mid, by rw [hfe, hmid]; rfl, by simp, by simp⟩ ?_
  rw [stepThread_native (f := { method := m, args := seenByNative meth args, locked := none }) (k := k) (x := meth) (row := row) hfe hk hx hboot hrow rfl]
  have hw := (wpRun_iff_run _ _ _ _ _).mp hw
  cases hr : (row.sem (seenByNative meth args)).run e ((S.setTop g).pushFrame (.native { method := m, args := seenByNative meth args, locked := none })) with
  | ok v s₁ acts₁ => rw [hr] at hw; exact hw.elim
  | ctl x s₁ acts₁ =>
    rw [hr] at hw
    have hw2 : x = .throwNew cls msg ∧ s₁ = (S.setTop g).pushFrame (.native { method := m, args := seenByNative meth args, locked := none }) := by
      cases x <;> first | exact hw | exact hw.elim
    obtain ⟨rfl, rfl⟩ := hw2
    show Steps p.tables e below (((S.setTop g).pushFrame (.native { method := m, args := seenByNative meth args, locked := none })).pushFrame (.throwNew cls msg none)) target
    have e1 : ((S.setTop g).pushFrame (.native { method := m, args := seenByNative meth args, locked := none })).pushFrame (.throwNew cls msg none) = S.setFrames (.throwNew cls msg none :: .native { method := m, args := seenByNative meth args, locked := none } :: .java g :: S.frames.tail) := by
      obtain ⟨g₀, hg⟩ := Option.isSome_iff_exists.mp h.top
      obtain ⟨r, hr'⟩ := State.topJava?_eq_some.mp hg
      have e2 : (S.setTop g).pushFrame (.native { method := m, args := seenByNative meth args, locked := none }) = S.setFrames (.native { method := m, args := seenByNative meth args, locked := none } :: .java g :: S.frames.tail) := by
        rw [State.pushFrame, State.frames_setTop _ hr', State.setTop_of_frames _ hr', State.setFrames_setFrames, hr']; rfl
      rw [e2, State.pushFrame, State.frames_setFrames _ (State.cur_lt_of_frames hr'), State.setFrames_setFrames]
    rw [e1]
    exact hrest
section XCG
variable {p : Program} {l : Launch} {e : Env} {R : Room} {s : State} {m : MethodId} {args : Array Value} {below : List Frame} {meth : Method} {c : Code} {H H0 : Heap} {locs : List Loc} {cells slots : Nat} {Q : State → Prop} {G : GT} {A : Nat → Prop} {aS : Nat} {ws : va_W}
variable {pc : Nat} {ls : Array Slot} {rest : List Value} {cc : ByteArray}
/-- from the call to the note over the native method's frame -/
theorem xc_call {T : State} (X : Stand p l e R s m args below meth c T locs cells slots) (hexec : p.tables.exec = Jvm.exec) {own : String} {index : Nat} (hown : s.vm.findClass own = some m.cls)
    (hlink : (Cond.methodLink own index arraycopyName).before args s = true) (hnat : (Cond.native arraycopyName).before args s = true) (hstat : (Cond.static arraycopyName).before args s = true) (hinit : (Cond.initialized "java/lang/System").before args s = true)
    {a b : Option Nat} {sp dp n : Int32} {g : JFrame} (hg : g.method = m) (hsize : g.locals.size = c.maxLocals) (hstack : g.stack = .int n :: .int dp :: va_rf b :: .int sp :: va_rf a :: rest) (hdg : decode c.code g.pc = .ok (.invokestatic index, 3))
    (hframes : 1 ≤ R.frames) (hlocals : 2 * g.monitorRoom + (rest.map fun v => v.category).sum + (nativeFrameWords "java/lang/System" "arraycopy" 5 + 11) ≤ R.locals) {cls : String} {msg : Option String}
    (hw : ∀ (vm' : Vm) (U : State), s.WarmedH vm' → U.heap = T.heap → U.vm = vm' → ∀ d acts, wp (Native.java_lang_System.arraycopy.sem #[va_rf a, .int sp, va_rf b, .int dp, .int n]) (fun _ _ _ _ => False) (fun x _ s₁ => x = .throwNew cls msg ∧ s₁ = U) e d acts U) :
    ∃ (vm' : Vm) (nf : NFrame), nf.locked = none ∧ nf.awaiting = false ∧ nf.words = 0 ∧ Stand p l e R s m args below meth c (T.setVm vm') locs cells slots ∧
      ∀ target, Steps p.tables e below ((T.setVm vm').setFrames (.throwNew cls msg none :: .native nf :: .java { g with stack := rest } :: below)) target → Steps p.tables e below (T.setTop g) target := by
  obtain ⟨r, kS, methS, hnS, hmS, hkS, N⟩ := NativeOf.of_static hnat hstat (ps := [.object "java/lang/Object", .int, .object "java/lang/Object", .int, .int]) (ret := none) (by decide +kernel)
  have hinitS : kS.init = .initialized := Cond.initialized_spec (findClass_of_methodNamed hnS) hkS hinit
  obtain ⟨vm', X', step⟩ := X.invokestatic hexec hown hlink hnS hmS N.static hkS hinitS (by decide) hg (argsL := [va_rf a, .int sp, va_rf b, .int dp, .int n]) (rest := rest) (by rw [N.sig]; rfl) hstack hdg
  subst hg
  have hA' : s.vm.Alike vm' := X'.warmed.alike
  obtain ⟨kS', N'⟩ := N.alike hA'
  have hseen : seenByNative methS #[va_rf a, .int sp, va_rf b, .int dp, .int n] = #[va_rf a, .int sp, va_rf b, .int dp, .int n] := by
    simp [seenByNative, N'.static, N'.sig, narrow]
  have hwd : operandWords ([va_rf a, .int sp, va_rf b, .int dp, .int n] : List Value) = 5 := by
    cases a <;> cases b <;> rfl
  refine ⟨vm', { method := r, args := #[va_rf a, .int sp, va_rf b, .int dp, .int n], locked := none }, rfl, rfl, rfl, X', fun target hrest => step target fun acts => ?_⟩
  refine xc_native (g := { g with stack := rest }) X'.here acts N'.cls N'.meth N'.boot N'.native N'.noCode N'.noLock (by rw [N'.className, N'.name, N'.desc]; exact arraycopy_row p)
    (by rw [N'.className, N'.name]; show e.platform.stackFull _ _ (nativeFrameWords _ _ (operandWords ([va_rf a, .int sp, va_rf b, .int dp, .int n] : List Value))) = false; rw [hwd]; exact X'.notFull (g := { g with stack := rest }) hsize (vars := nativeFrameWords "java/lang/System" "arraycopy" 5) hframes hlocals)
    (cls := cls) (msg := msg) ?_ ?_
  · rw [hseen, arraycopyRow_sem]
    exact hw vm' (((T.setVm vm').setTop { g with stack := rest }).pushFrame (.native { method := r, args := #[va_rf a, .int sp, va_rf b, .int dp, .int n], locked := none })) X'.warmed rfl rfl _ _
  · rw [hseen, X'.tail]
    exact hrest
end XCG
