/-! methods that may end by a throw: their contract, the judgement at a note that something is thrown, calls of such methods, handlers -/
set_option maxRecDepth 100000
def FrEnd (st t : State) (L : List Loc) (k n : Nat) : Prop := st.WarmedH t.vm ∧ st.sameButNew ({ t with vm := st.vm } : State) L k n
/-- the contract of a method that returns or throws -/
def MetT (l : Launch) (y : MethodName) (ws : List Cond) (rm : Room) (Pc : Array Value → State → Prop) (Qc : Array Value → State → Outcome → State → Prop) (mc ms : Nat) (free : Addr → Prop) : Prop :=
  MetFree l y (headSpec ws rm) Pc (fun _ _ _ _ _ => True) (fun a st o t => Qc a st o t ∧ ∃ L, FrEnd st t L mc ms ∧ ∀ q ∈ L, free q.base)
def MQT (below : List Frame) (Qc : Array Value → State → Outcome → State → Prop) (a : Array Value) (s : State) (mc ms : Nat) (free : Addr → Prop) : State → Prop := fun t =>
  ∃ o, t.status = .running ∧ Ended t below o ∧ Qc a s o t ∧ ∃ L, FrEnd s t L mc ms ∧ ∀ q ∈ L, free q.base
/-- the machine, with the note that x is thrown over the frame g, comes to a state with Q -/
def WX (p : Program) (l : Launch) (e : Env) (R : Room) (s : State) (m : MethodId) (args : Array Value) (below : List Frame) (meth : Method) (c : Code) (H : Heap) (locs : List Loc) (cells slots : Nat) (Q : State → Prop) (g : JFrame) (x : Addr) : Prop :=
  ∀ T : State, T.heap = H → Stand p l e R s m args below meth c T locs cells slots → ∃ t, Steps p.tables e below ((T.setTop g).pushFrame (.throwing x)) t ∧ Q t
section XB
variable {p : Program} {l : Launch} {e : Env} {R : Room} {s : State} {m : MethodId} {args : Array Value} {below : List Frame} {meth : Method} {c : Code} {H : Heap} {locs : List Loc} {cells slots : Nat} {Q : State → Prop}
theorem w_imp {Q' : State → Prop} {g : JFrame} (h : ∀ t, Q t → Q' t) (k : W p l e R s m args below meth c H locs cells slots Q g) : W p l e R s m args below meth c H locs cells slots Q' g := by
  intro T hT X
  obtain ⟨t, a, b⟩ := k T hT X
  exact ⟨t, a, h t b⟩
theorem w_toT {Qc : Array Value → State → Outcome → State → Prop} {mc ms : Nat} {free : Addr → Prop} {g : JFrame} (k : W p l e R s m args below meth c H locs cells slots (MQ below Qc args s mc ms free) g) : W p l e R s m args below meth c H locs cells slots (MQT below Qc args s mc ms free) g :=
  w_imp (fun t h => by
    obtain ⟨o, h1, h2, h3, L, ⟨-, h4, h5⟩, h6⟩ := h
    exact ⟨o, h1, h2, h3, L, ⟨h4, h5⟩, h6⟩) k
theorem w_athrow {cc : ByteArray} (hexec : p.tables.exec = Jvm.exec) (hb : c.code = cc) {pc : Nat} {ls : Array Slot} {a : Addr} {rest : List Value} (hdg : decode cc pc = .ok (.athrow, 1)) (k : WX p l e R s m args below meth c H locs cells slots Q (F0 m pc ls rest) a) : W p l e R s m args below meth c H locs cells slots Q (F0 m pc ls (.ref a :: rest)) := by
  intro T hT X
  obtain ⟨t, h1, h2⟩ := k T hT X
  refine ⟨t, ?_, h2⟩
  jvm_step X.here [hexec, hb, hdg, athrow.wp_sem]
  exact h1
/-- no handler: the method ends by the throw -/
theorem wx_leave {Qc : Array Value → State → Outcome → State → Prop} {free : Addr → Prop} {pc : Nat} {ls : Array Slot} {st : List Value} {x : Addr} (hno : c.exceptionTable.isEmpty = true) (hlocks : meth.locks = false) (hq : ∀ t : State, t.heap = H → s.WarmedH t.vm → Qc args s (.threw x) t) (hf : ∀ q ∈ locs, free q.base) : WX p l e R s m args below meth c H locs cells slots (MQT below Qc args s cells slots free) (F0 m pc ls st) x := by
  intro T hT X
  have hout : ∀ y ∈ c.exceptionTable.toList, covers y (F0 m pc ls st).pc = false := by
    have e0 : c.exceptionTable = #[] := by simpa using hno
    intro y hy
    rw [e0] at hy
    cases hy
  obtain ⟨h0, h1, h2, h3, h4⟩ := X.leaveThrown x (g := F0 m pc ls st) rfl rfl rfl hout hlocks
  exact ⟨_, h0, .threw x, h1, h2, hq _ hT h3, locs, ⟨h3, h4⟩, hf⟩
/-- a call of a method that may throw -/
def xEnd (g : JFrame) (rest : List Value) (T' t : State) : Outcome → Prop
  | .returned v => t = T'.setTop { g with pc := g.pc + 3, stack := v.toList ++ rest }
  | .threw x => t = (T'.setTop { g with stack := rest }).pushFrame (.throwing x)
def va_RunT (p : Program) (l : Launch) (e : Env) (R : Room) (s : State) (m : MethodId) (args : Array Value) (below : List Frame) (meth : Method) (c : Code) (H : Heap) (locs : List Loc) (cells slots mc ms : Nat) (g : JFrame) (rest : List Value) (Qa : State → Outcome → State → Prop) (free : Addr → Prop) : Prop :=
  ∀ T : State, T.heap = H → Stand p l e R s m args below meth c T locs cells slots → ∃ (o : Outcome) (st₀ t T' : State) (L : List Loc), st₀.heap = H ∧ Stand p l e R s m args below meth c T' (locs ++ L) (cells + mc) (slots + ms) ∧ (∀ q ∈ L, free q.base) ∧ T'.heap = t.heap ∧ T'.vm = t.vm ∧ Qa st₀ o t ∧
    (∀ tg, Steps p.tables e below t tg → Steps p.tables e below (T.setTop g) tg) ∧ xEnd g rest T' t o
theorem backT {y : MethodName} {ws : List Cond} {rm : Room} {Pc : Array Value → State → Prop} {Qc : Array Value → State → Outcome → State → Prop} {mc ms : Nat} {free : Addr → Prop} {bytes : ByteArray} {maxL len : Nat} {ret : Option FieldType}
    (hM : MetT l y ws rm Pc Qc mc ms free) (hbl : FrameBlind Pc) (hrc : rm.cells = mc) (hrs : rm.slots = ms) (hframes : rm.frames + 1 ≤ R.frames) (hlocals : 8 + (maxL + 11) + rm.locals ≤ R.locals)
    (hws : ∀ w ∈ ws, ∀ (a' : Array Value) (U : State), s.WarmedH U.vm → w.before a' U = true) (hcode : Cond.code y bytes maxL ret ∈ ws) (hinit : ∀ (a' : Array Value) (U : State), s.WarmedH U.vm → (Cond.initialized y.cls).before a' U = true)
    {U : State} (X : Stand p l e R s m args below meth c U locs cells slots) {g : JFrame} {ig : Instr} {mk : MethodId} (a : Array Value) (hg : g.method = m) (hsize : g.locals.size = c.maxLocals) (hdg : decode c.code g.pc = .ok (ig, len)) (hW : 2 * g.monitorRoom + (g.stack.map fun v => v.category).sum ≤ 8)
    (hn : U.methodNamed? y = some mk) (hc : cells + mc ≤ R.cells) (hs : slots + ms ≤ R.slots) (hP : Pc a U) :
    ∃ (o : Outcome) (t T' : State) (L : List Loc), Stand p l e R s m args below meth c T' (locs ++ L) (cells + mc) (slots + ms) ∧ (∀ q ∈ L, free q.base) ∧ T'.heap = t.heap ∧ T'.vm = t.vm ∧ Qc a (U.calling g mk a) o t ∧ Steps p.tables e below (doInvoke e (U.setTop g) [] mk a).1 t ∧
      (match o with
        | .returned v => t = T'.setTop { g with pc := g.pc + len, stack := v.toList ++ g.stack }
        | .threw x => t = (T'.setTop g).pushFrame (.throwing x)) := by
  have h2 := hws _ hcode a U X.warmed
  have h3 := hinit a U X.warmed
  obtain ⟨methY, cY, hmY, hcY, -, hlY, -, -, -, -⟩ := Cond.code_spec hn h2
  obtain ⟨kY, hkY, -⟩ := className_of_methodNamed hn
  have hinitY : kY.init = .initialized := Cond.initialized_spec (findClass_of_methodNamed hn) hkY h3
  have h : At U g.method c below := by rw [hg]; exact X.here
  have happ : (headSpec ws rm).appliesLoose y e.platform (U.calling g mk a) = true :=
    Spec.appliesLoose_calling (g := g) h hdg hn hkY hinitY
      (X.room_calling (g := g) (R' := (headSpec ws rm).room) hsize hmY hcY hframes (by rw [hlY]; show _ + (maxL + 11) + rm.locals ≤ _; omega) (by rw [show (headSpec ws rm).room.cells = mc from hrc]; exact hc) (by rw [show (headSpec ws rm).room.slots = ms from hrs]; exact hs)) (atoms_intro fun w hw => hws w hw _ _ X.warmed)
  have hfr : (U.setTop g).frames = [Frame.java g] ++ below := by rw [State.frames_setTop' g h.top, X.tail]; rfl
  obtain ⟨o, s₂, hsteps, -, hend, hq, L, hF, hL⟩ := Steps.callFree hM p X.admits X.cas X.clock (acts := []) hfr happ (hbl _ _ g mk hP) trivial
  rw [State.frames_setTop' g h.top, X.tail] at hend
  cases o with
  | returned v =>
    obtain ⟨T', X', -, -, e1⟩ := X.outOf hg hdg hend hF.1 hF.2
    exact ⟨.returned v, s₂, T', L, X', hL, by rw [e1]; rfl, by rw [e1]; rfl, hq, hsteps, e1⟩
  | threw x =>
    obtain ⟨T', X', -, -, e1⟩ := X.outOfThrown hg hend hF.1 hF.2
    exact ⟨.threw x, s₂, T', L, X', hL, by rw [e1]; rfl, by rw [e1]; rfl, hq, hsteps, e1⟩
theorem va_runVT {y : MethodName} {bytes cc : ByteArray} {maxL nL mc ms n index : Nat} {ret : Option FieldType} {ws : List Cond} {rm : Room} {Pc : Array Value → State → Prop} {Qc : Array Value → State → Outcome → State → Prop} {free : Addr → Prop} {Ts : List Cond} {own C : String} {b : Addr} {As rest : List Value} {g : JFrame}
    (S : CallFix p m c cc nL s args Ts own) (hM : MetT l y ws rm Pc Qc mc ms free) (cw : CallW R s args own C index y bytes maxL ret ws rm mc ms n) (hp : PreV s H C b Pc As)
    (hg : g.method = m) (hn : As.length = n) (hsize : g.locals.size = nL) (hstack : g.stack = As.reverse ++ .ref b :: rest) (hW : 2 * g.monitorRoom + (rest.map fun v => v.category).sum ≤ 8) (hdg : decode cc g.pc = .ok (.invokevirtual index, 3)) (hf : cells + mc ≤ R.cells ∧ slots + ms ≤ R.slots) :
    va_RunT p l e R s m args below meth c H locs cells slots mc ms g rest (Qc (Value.ref b :: As).toArray) free := by
  obtain ⟨⟨hrc, hrs, hfr, hlo, hws, hcw, hcode, hini, hy, hlen, hl⟩, hin, hse⟩ := cw
  obtain ⟨hx, hb, hml, ho, -⟩ := S
  obtain ⟨hbl, ⟨cellB, hcB, hoB, hclB⟩, hPc⟩ := hp
  intro T hT X
  obtain ⟨mk, methM, hnamed, hmethM, hstM, habM⟩ := Cond.instanceMethod_spec hin
  obtain ⟨methM', cM, hmethM', -, -, -, -, -, -, hsigM⟩ := Cond.code_spec hnamed hcode
  cases hmethM.symm.trans hmethM'
  obtain ⟨c2, r2, m2, q1, q2, q3, q4, kP, hkP, hkPi⟩ := Cond.selects_spec hse
  cases hclB.symm.trans q1
  cases (State.methodFound?_of_named hnamed hy).symm.trans q2
  cases hnamed.symm.trans q3
  have hselP : selectMethod e.platform s.vm cellB.cls mk = .method mk := by rw [Launch.admits_selectMethod X.admits]; exact q4
  obtain ⟨vm₁, X₁, hstep₁⟩ := X.invokevirtual hx ho hl hnamed hmethM hstM hkP hkPi hy (a := b) (cell := cellB) (by rw [hT]; exact hcB)
    (fun z h => by rw [h] at hoB; cases hoB) hselP hmethM habM hkP hkPi (g := g) hg (argsL := As) (rest := rest) (hn.trans (hlen _ hsigM)) hstack (by rw [hb]; exact hdg)
  obtain ⟨o, t, T', L, X', hL, e1, e2, hq, hsteps, hend⟩ := backT (bytes := bytes) (maxL := maxL) (ret := ret) hM hbl hrc hrs hfr hlo hws hcw (fun a' U hW => word_at hW (Or.inl (by first | rfl | simp [Cond.onTables, Cond.keeps, Cond.steady])) hini) X₁ (g := { g with stack := rest }) (Value.ref b :: As).toArray hg (hsize.trans hml.symm) (by rw [hb]; exact hdg) hW (X₁.named hnamed) hf.1 hf.2 (hPc (T.setVm vm₁) hT X₁.warmed)
  refine ⟨o, (T.setVm vm₁).calling { g with stack := rest } mk (Value.ref b :: As).toArray, t, T', L, hT, X', hL, e1, e2, hq, fun tg h => hstep₁ _ fun acts => by rw [doInvoke_state]; exact hsteps.trans h, ?_⟩
  cases o with
  | returned v => exact hend
  | threw x => exact hend
/-- a contract's end: it returns, or throws the one object x0 -/
def va_QTi {S : Type} (post : Int32 → S → Prop) (postX : S → Prop) (x0 : Nat) (B : S → State → Prop) (A : Nat → Prop) : Array Value → State → Outcome → State → Prop := fun _ st oc t => ((∃ (r : Int32) (u : S), oc = .returned (some (.int r)) ∧ post r u ∧ B u t) ∨ (∃ u : S, oc = .threw x0 ∧ postX u ∧ B u t)) ∧ va_F A st t
def va_QTv {S : Type} (post : S → Prop) (postX : S → Prop) (x0 : Nat) (B : S → State → Prop) (A : Nat → Prop) : Array Value → State → Outcome → State → Prop := fun _ st oc t => ((∃ u : S, oc = .returned none ∧ post u ∧ B u t) ∨ (∃ u : S, oc = .threw x0 ∧ postX u ∧ B u t)) ∧ va_F A st t
theorem va_callTi {pc : Nat} {ls : Array Slot} {rest st0 : List Value} {a : Array Value} {A0 A1 : Nat → Prop} {H0 : Heap} {mc ms x0 : Nat} {free : Addr → Prop} {S : Type} {post : Int32 → S → Prop} {postX : S → Prop} {B : S → State → Prop}
    (hr : va_RunT p l e R s m args below meth c H locs cells slots mc ms (F0 m pc ls st0) rest (va_QTi post postX x0 B A1 a) free) (hS : va_S A0 H0 H locs) (hA : ∀ q, q < H.size → A1 q → A0 q) (hf : ∀ q, free q → A0 q)
    (kk : ∀ (r : Int32) (u : S) (t : State) (H1 : Heap) (locs1 : List Loc), t.heap = H1 → s.vm.Alike t.vm → post r u → B u t → H.size ≤ H1.size → (∀ q : Nat, q < H.size → ¬ A1 q → H1[q]? = H[q]?) → va_S A0 H0 H1 locs1 → W p l e R s m args below meth c H1 locs1 (cells + mc) (slots + ms) Q (F0 m (pc + 3) ls (.int r :: rest)))
    (kx : ∀ (u : S) (t : State) (H1 : Heap) (locs1 : List Loc), t.heap = H1 → s.vm.Alike t.vm → postX u → B u t → H.size ≤ H1.size → (∀ q : Nat, q < H.size → ¬ A1 q → H1[q]? = H[q]?) → va_S A0 H0 H1 locs1 → WX p l e R s m args below meth c H1 locs1 (cells + mc) (slots + ms) Q (F0 m pc ls rest) x0) :
    W p l e R s m args below meth c H locs cells slots Q (F0 m pc ls st0) := by
  intro T hT X
  obtain ⟨o, st₀, t, T', L, h0, X', hL, e1, e2, ⟨hq, hz, hk⟩, st, hend⟩ := hr T hT X
  rw [h0] at hz hk
  have hS' : va_S A0 H0 T'.heap (locs ++ L) := ⟨Nat.le_trans hS.1 (by rw [e1]; exact hz), fun q h1 h2 => by rw [e1, hk q (Nat.lt_of_lt_of_le h1 hS.1) (fun z => h2 (hA q (Nat.lt_of_lt_of_le h1 hS.1) z))]; exact hS.2.1 q h1 h2, fun q hq => by
      rcases List.mem_append.mp hq with h | h
      · exact hS.2.2 q h
      · exact hf _ (hL q h)⟩
  rcases hq with ⟨r, u, hv, hp, hb⟩ | ⟨u, hv, hp, hb⟩
  · subst hv
    obtain ⟨t2, a1, b1⟩ := kk r u t T'.heap (locs ++ L) e1.symm (by rw [← e2]; exact X'.warmed.alike) hp hb (by rw [e1]; exact hz) (fun q h1 h2 => by rw [e1]; exact hk q h1 h2) hS' T' rfl X'
    have hend : t = T'.setTop (F0 m (pc + 3) ls (.int r :: rest)) := hend
    rw [← hend] at a1
    exact ⟨t2, st t2 a1, b1⟩
  · subst hv
    obtain ⟨t2, a1, b1⟩ := kx u t T'.heap (locs ++ L) e1.symm (by rw [← e2]; exact X'.warmed.alike) hp hb (by rw [e1]; exact hz) (fun q h1 h2 => by rw [e1]; exact hk q h1 h2) hS' T' rfl X'
    have hend : t = (T'.setTop (F0 m pc ls rest)).pushFrame (.throwing x0) := hend
    rw [← hend] at a1
    exact ⟨t2, st t2 a1, b1⟩
theorem va_callTv {pc : Nat} {ls : Array Slot} {rest st0 : List Value} {a : Array Value} {A0 A1 : Nat → Prop} {H0 : Heap} {mc ms x0 : Nat} {free : Addr → Prop} {S : Type} {post postX : S → Prop} {B : S → State → Prop}
    (hr : va_RunT p l e R s m args below meth c H locs cells slots mc ms (F0 m pc ls st0) rest (va_QTv post postX x0 B A1 a) free) (hS : va_S A0 H0 H locs) (hA : ∀ q, q < H.size → A1 q → A0 q) (hf : ∀ q, free q → A0 q)
    (kk : ∀ (u : S) (t : State) (H1 : Heap) (locs1 : List Loc), t.heap = H1 → s.vm.Alike t.vm → post u → B u t → H.size ≤ H1.size → (∀ q : Nat, q < H.size → ¬ A1 q → H1[q]? = H[q]?) → va_S A0 H0 H1 locs1 → W p l e R s m args below meth c H1 locs1 (cells + mc) (slots + ms) Q (F0 m (pc + 3) ls rest))
    (kx : ∀ (u : S) (t : State) (H1 : Heap) (locs1 : List Loc), t.heap = H1 → s.vm.Alike t.vm → postX u → B u t → H.size ≤ H1.size → (∀ q : Nat, q < H.size → ¬ A1 q → H1[q]? = H[q]?) → va_S A0 H0 H1 locs1 → WX p l e R s m args below meth c H1 locs1 (cells + mc) (slots + ms) Q (F0 m pc ls rest) x0) :
    W p l e R s m args below meth c H locs cells slots Q (F0 m pc ls st0) := by
  intro T hT X
  obtain ⟨o, st₀, t, T', L, h0, X', hL, e1, e2, ⟨hq, hz, hk⟩, st, hend⟩ := hr T hT X
  rw [h0] at hz hk
  have hS' : va_S A0 H0 T'.heap (locs ++ L) := ⟨Nat.le_trans hS.1 (by rw [e1]; exact hz), fun q h1 h2 => by rw [e1, hk q (Nat.lt_of_lt_of_le h1 hS.1) (fun z => h2 (hA q (Nat.lt_of_lt_of_le h1 hS.1) z))]; exact hS.2.1 q h1 h2, fun q hq => by
      rcases List.mem_append.mp hq with h | h
      · exact hS.2.2 q h
      · exact hf _ (hL q h)⟩
  rcases hq with ⟨u, hv, hp, hb⟩ | ⟨u, hv, hp, hb⟩
  · subst hv
    obtain ⟨t2, a1, b1⟩ := kk u t T'.heap (locs ++ L) e1.symm (by rw [← e2]; exact X'.warmed.alike) hp hb (by rw [e1]; exact hz) (fun q h1 h2 => by rw [e1]; exact hk q h1 h2) hS' T' rfl X'
    have hend : t = T'.setTop (F0 m (pc + 3) ls rest) := hend
    rw [← hend] at a1
    exact ⟨t2, st t2 a1, b1⟩
  · subst hv
    obtain ⟨t2, a1, b1⟩ := kx u t T'.heap (locs ++ L) e1.symm (by rw [← e2]; exact X'.warmed.alike) hp hb (by rw [e1]; exact hz) (fun q h1 h2 => by rw [e1]; exact hk q h1 h2) hS' T' rfl X'
    have hend : t = (T'.setTop (F0 m pc ls rest)).pushFrame (.throwing x0) := hend
    rw [← hend] at a1
    exact ⟨t2, st t2 a1, b1⟩
end XB
theorem MetT.ofW {l : Launch} {y : MethodName} {ws ws' : List Cond} {rm : Room} {Pc : Array Value → State → Prop} {Qc : Array Value → State → Outcome → State → Prop} {mc ms : Nat} {free : Addr → Prop} {cc : ByteArray} {maxL : Nat} {ret : Option FieldType}
    (hy : plainName y.cls = true) (hw : ws = Cond.code y cc maxL ret :: ws')
    (body : ∀ p e s m args below meth c s₁, BodyLoose p l y (headSpec ws rm) cc maxL ret e s m args below meth c s₁ → c.maxLocals = maxL → c.exceptionTable.isEmpty = true → Pc args s →
      W p l e (headSpec ws rm).room s m args below meth c s.heap [] 0 0 (MQT below Qc args s mc ms free) (entryFrame m args maxL)) : MetT l y ws rm Pc Qc mc ms free := by
  refine MetFree.of_bodyS (code := cc) (maxLocals := maxL) (ret := ret) hy ?_ ?_
  · intro args s m h hn
    obtain ⟨meth, c, h1, h2, h3, h4, h5, h6, -, -⟩ := Cond.code_spec hn (atoms_spec (ws := ws) h _ (by rw [hw]; exact List.mem_cons_self))
    exact ⟨meth, c, h1, h2, h3, h4, h5, h6⟩
  · intro p e s m args below meth c s₁ B hml hP _
    have hh0 : s₁.heap = s.heap := by rw [B.state]; rfl
    have hno := B.noHandlers (atoms_spec (ws := ws) B.pre _ (by rw [hw]; exact List.mem_cons_self))
    obtain ⟨t, a1, o, b1, b2, b3⟩ := body p e s m args below meth c s₁ B hml hno hP s₁ hh0 (Stand.of_body B)
    exact ⟨t, o, a1, b1, b2, ⟨b3.1, b3.2⟩⟩
