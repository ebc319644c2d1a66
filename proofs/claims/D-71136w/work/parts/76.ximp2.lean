/-! the machine's own exceptions in a walk: rules -/
set_option maxRecDepth 100000
theorem xUp_len : ∀ k, k < 5 → 1 ≤ k → (xUp k).length ≤ 3 := by decide
theorem xN_fit : ∀ k, k < 5 → 1 ≤ k → Bundle.fit (xN k) = true ∧ (∀ n ∈ xUp k, Bundle.fit n = true) ∧ (xN k == "java/lang/StackOverflowError") = false ∧ (xN k == "java/lang/OutOfMemoryError") = false := by decide +kernel
/-- a reference or none, by a word -/
abbrev rfd (b : Bool) (r : Nat) : Value := cond b .null (.ref r)
def x_pr : List String := ["[B", "[S", "[I", "[J"]
/-- a class found by its name: no hidden one, the boot loader's -/
def xF (k : Class) (name : String) : Prop := k.name = name ∧ k.hidden = none ∧ k.loader = none
theorem x_found {vm : Vm} {name : String} {c : ClassId} {k : Class} (h : vm.findClass name = some c) (hk : vm.classes[c]? = some k) : xF k name := by
  unfold Vm.findClass at h
  obtain ⟨hlt, hp, -⟩ := Array.findIdx?_eq_some_iff_getElem.mp h
  have e : vm.classes[c] = k := by
    rw [Array.getElem?_eq_getElem hlt] at hk
    exact Option.some.inj hk
  rw [e] at hp
  simp only [Bool.and_eq_true, beq_iff_eq, Option.isNone_iff_eq_none] at hp
  exact ⟨hp.1.1.1, hp.1.1.2, hp.2⟩
theorem x_prim {k : Class} {name : String} (h : xF k name) {comp : ClassId} {t : FieldType} (hk : k.kind = .array comp t) (hn : name ∈ x_pr) : k.ofPrimitives = true := by
  unfold Class.ofPrimitives
  rw [hk, h.1]
  show ((withoutBrackets name).length == 1) = true
  revert hn
  have : ∀ n ∈ x_pr, ((withoutBrackets n).length == 1) = true := by decide +kernel
  exact this name
def xHome (b : Bool) : String := (if b then "module java.base" else "unnamed module") ++ " of loader " ++ "'bootstrap'"
def xMsg (a b : String) (same h : Bool) : String := if same then "class " ++ a ++ " cannot be cast to class " ++ b ++ " (" ++ (a ++ " and " ++ b ++ " are in " ++ xHome h) ++ ")" else "class " ++ a ++ " cannot be cast to class " ++ b ++ " (" ++ (a ++ " is in " ++ xHome h ++ "; " ++ b ++ " is in " ++ xHome h) ++ ")"
theorem x_dot : ∀ a ∈ x_pr, dotted a = a := by decide +kernel
theorem x_two : ∀ a ∈ x_pr, a.toList.length = 2 := by decide +kernel
theorem x_homeLen (h : Bool) : (xHome h).toList.length ≤ 50 := by
  unfold xHome
  simp only [String.toList_append, List.length_append]
  have a1 : " of loader ".toList.length = 11 := by decide
  have a2 : "'bootstrap'".toList.length = 11 := by decide
  have a3 : (if h = true then "module java.base" else "unnamed module").toList.length ≤ 16 := by cases h <;> decide
  omega
theorem x_len {a b : String} (ha : a.toList.length = 2) (hb : b.toList.length = 2) (s h : Bool) : (xMsg a b s h).toList.length ≤ 200 := by
  have hh := x_homeLen h
  have a1 : "class ".toList.length = 6 := by decide
  have a2 : " cannot be cast to class ".toList.length = 25 := by decide
  have a3 : " (".toList.length = 2 := by decide
  have a4 : ")".toList.length = 1 := by decide
  have a5 : " and ".toList.length = 5 := by decide
  have a6 : " are in ".toList.length = 8 := by decide
  have a7 : " is in ".toList.length = 7 := by decide
  have a8 : "; ".toList.length = 2 := by decide
  unfold xMsg
  cases s
  · show ("class " ++ a ++ " cannot be cast to class " ++ b ++ " (" ++ (a ++ " is in " ++ xHome h ++ "; " ++ b ++ " is in " ++ xHome h) ++ ")").toList.length ≤ 200
    simp only [String.toList_append, List.length_append]
    omega
  · show ("class " ++ a ++ " cannot be cast to class " ++ b ++ " (" ++ (a ++ " and " ++ b ++ " are in " ++ xHome h) ++ ")").toList.length ≤ 200
    simp only [String.toList_append, List.length_append]
    omega
theorem x_msgOk (a : String) (ha : a ∈ x_pr) (b : String) (hb : b ∈ x_pr) (s h : Bool) : (stringBytes (stringToUtf16 (xMsg (dotted a) (dotted b) s h))).size ≤ 1000 ∧ ((xMsg (dotted a) (dotted b) s h) == notModelled) = false := by
  rw [x_dot a ha, x_dot b hb]
  have b1 := stringBytes_size_le (stringToUtf16 (xMsg a b s h))
  have b2 := utf16_size_le (xMsg a b s h)
  have b3 := x_len (x_two a ha) (x_two b hb) s h
  refine ⟨by omega, ?_⟩
  rw [beq_eq_false_iff_ne]
  intro e
  have h2 := congrArg String.toList e
  have h3 : ∃ r, (xMsg a b s h).toList = 'c' :: r := by
    unfold xMsg
    cases s
    · refine ⟨("lass ".toList ++ a.toList ++ " cannot be cast to class ".toList ++ b.toList ++ " (".toList ++ (a ++ " is in " ++ xHome h ++ "; " ++ b ++ " is in " ++ xHome h).toList ++ ")".toList), ?_⟩
      show ("class " ++ a ++ " cannot be cast to class " ++ b ++ " (" ++ (a ++ " is in " ++ xHome h ++ "; " ++ b ++ " is in " ++ xHome h) ++ ")").toList = _
      simp only [String.toList_append]
      rfl
    · refine ⟨("lass ".toList ++ a.toList ++ " cannot be cast to class ".toList ++ b.toList ++ " (".toList ++ (a ++ " and " ++ b ++ " are in " ++ xHome h).toList ++ ")".toList), ?_⟩
      show ("class " ++ a ++ " cannot be cast to class " ++ b ++ " (" ++ (a ++ " and " ++ b ++ " are in " ++ xHome h) ++ ")").toList = _
      simp only [String.toList_append]
      rfl
  obtain ⟨r, h3⟩ := h3
  rw [h3] at h2
  have h4 : notModelled.toList = '\u0000' :: " a message that is not modelled".toList := by decide
  rw [h4] at h2
  simp at h2
theorem x_castText {vm : Vm} {ka kb : Class} {a b : String} (h1 : xF ka a) (h2 : xF kb b) (p1 : ka.ofPrimitives = true) (p2 : kb.ofPrimitives = true) (ha : a ∈ x_pr) (hb : b ∈ x_pr) : (stringBytes (stringToUtf16 (checkcast.message vm ka kb))).size ≤ 1000 ∧ ((checkcast.message vm ka kb) == notModelled) = false := by
  have hm : ∀ k : Class, k.ofPrimitives = true → k.loader = none → vm.home k = xHome (vm.modules.find? (·.name == "java.base")).isSome := by
    intro k hk hl
    unfold Vm.home Vm.moduleOf xHome
    rw [if_pos hk, hl]
    cases e : vm.modules.find? (·.name == "java.base") with
    | none => rfl
    | some m =>
      have := List.find?_some e
      have hn : m.name = "java.base" := by simpa using this
      show ("module " ++ m.name) ++ " of loader " ++ _ = _
      rw [hn]; rfl
  have sh : ∀ (k : Class) (n : String), xF k n → k.shown = dotted n := by
    intro k n h
    unfold Class.shown
    rw [h.2.1, h.1]
  have e : checkcast.message vm ka kb = xMsg (dotted a) (dotted b) (vm.sameModule ka kb) (vm.modules.find? (·.name == "java.base")).isSome := by
    unfold checkcast.message Vm.homes xMsg
    rw [sh ka a h1, sh kb b h2, hm ka p1 h1.2.2, hm kb p2 h2.2.2]
    cases vm.sameModule ka kb <;> rfl
  rw [e]
  exact x_msgOk a ha b hb _ _
section XI
variable {p : Program} {l : Launch} {e : Env} {R : Room} {s : State} {m : MethodId} {args : Array Value} {below : List Frame} {meth : Method} {c : Code} {H H0 : Heap} {locs : List Loc} {cells slots : Nat} {Q : State → Prop} {G : GT} {A : Nat → Prop} {aS : Nat} {ws : va_W}
variable {pc : Nat} {ls : Array Slot} {rest st0 : List Value} {cc : ByteArray}
theorem x_room (ls : Array Slot) (rest : List Value) (hl : (rest.map fun v => v.category).sum ≤ 8) {n : Nat} (hR : 10248 ≤ n) : 2 * (F0 m pc ls rest).monitorRoom + ((F0 m pc ls rest).stack.map fun v => v.category).sum + 10240 ≤ n := by
  show 2 * 0 + (rest.map fun v => v.category).sum + 10240 ≤ n
  omega
theorem x_S {U : Heap} (hS : va_S A H0 H locs) {k : Nat} (h1 : U.size = H.size + k) (h2 : ∀ q, q < H.size → U[q]? = H[q]?) : va_S A H0 U locs :=
  ⟨by rw [h1]; exact Nat.le_trans hS.1 (Nat.le_add_right _ _), fun q a b => (h2 q (Nat.lt_of_lt_of_le a hS.1)).trans (hS.2.1 q a b), hS.2.2⟩
theorem w_msg (hexec : p.tables.exec = Jvm.exec) (hml : c.maxLocals = ls.size) (hts : ∀ w ∈ lw_all, w.before args s = true) (hK : gK G s) (hX : XCx l aS s A) (hS : va_S A H0 H locs) (hP : va_P G.1 gCl ws H) (k N : Nat) (hk : k < 5) (hk1 : 1 ≤ k) (hN2 : N ≤ 100000)
    (hstep : ∀ T : State, T.heap = H → Stand p l e R s m args below meth c T locs cells slots → ∃ (T2 : State) (text : String), T2.heap = H ∧ Stand p l e R s m args below meth c T2 locs cells slots ∧ (text == notModelled) = false ∧ (stringBytes (stringToUtf16 text)).size ≤ N ∧ ∀ target, Steps p.tables e below ((T2.setTop (F0 m pc ls rest)).pushFrame (.throwNew (xN k) (some text) none)) target → Steps p.tables e below (T.setTop (F0 m pc ls st0)) target)
    (hl : (rest.map fun v => v.category).sum ≤ 8) (hfr : 7 < R.frames) (hlo : 10248 ≤ R.locals) (hRcells : cells + 3 ≤ R.cells) (hRslots : slots + (N + 10) ≤ R.slots)
    (kk : ∀ (x : Nat) (H1 : Heap), xObj s k x H1 → va_P G.1 gCl ws H1 → va_S A H0 H1 locs → H.size ≤ H1.size → (∀ q, q < H.size → H1[q]? = H[q]?) → WX p l e R s m args below meth c H1 locs (cells + 3) (slots + (N + 10)) Q (F0 m pc ls rest) x) : W p l e R s m args below meth c H locs cells slots Q (F0 m pc ls st0) := by
  intro T hT X
  obtain ⟨T2, text, h1, X2, h2, h3, st⟩ := hstep T hT X
  obtain ⟨f1, f2, f3, f4⟩ := xN_fit k hk hk1
  have f5 := xUp_len k hk hk1
  obtain ⟨U, ce, XU, e1, e2, e3, e4, e5, st2⟩ := x_msgAt X2 hexec (Launch.traces_off hX.1 X.admits) f1 f2 f3 f4 (x_ok hts hK hX.2.1 (x_msgL k hk hk1)) (fun x hx cell hc => hX.2.2 _ cell (hS.2.2 x hx) hc) h2 h3 hN2 (g := F0 m pc ls rest) rfl hml.symm (by omega) (x_room ls rest hl hlo) (by omega) hRcells hRslots
  rw [h1] at e1 e2
  obtain ⟨t, a1, b1⟩ := kk (T2.heap.size + 2) U.heap ⟨ce, e3, e4, e5⟩ (hP.kept (fun k q hq => e2 q.1 ((hP k q hq).lt))) (x_S hS e1 e2) (by rw [e1]; omega) e2 U rfl XU
  exact ⟨t, st t (st2 t a1), b1⟩
theorem w_npe (hexec : p.tables.exec = Jvm.exec) (hml : c.maxLocals = ls.size) (hts : ∀ w ∈ lw_all, w.before args s = true) (hK : gK G s) (hX : XCx l aS s A) (hS : va_S A H0 H locs) (hP : va_P G.1 gCl ws H)
    (hstep : ∀ T : State, T.heap = H → Stand p l e R s m args below meth c T locs cells slots → ∀ target, Steps p.tables e below ((T.setTop (F0 m pc ls rest)).pushFrame (.throwNew "java/lang/NullPointerException" none none)) target → Steps p.tables e below (T.setTop (F0 m pc ls st0)) target)
    (hl : (rest.map fun v => v.category).sum ≤ 8) (hfr : 7 < R.frames) (hlo : 10248 ≤ R.locals) (hRcells : cells + 1 ≤ R.cells) (hRslots : slots + 8 ≤ R.slots)
    (kk : ∀ (x : Nat) (H1 : Heap), xObj s 0 x H1 → va_P G.1 gCl ws H1 → va_S A H0 H1 locs → H.size ≤ H1.size → (∀ q, q < H.size → H1[q]? = H[q]?) → WX p l e R s m args below meth c H1 locs (cells + 1) (slots + 8) Q (F0 m pc ls rest) x) : W p l e R s m args below meth c H locs cells slots Q (F0 m pc ls st0) := by
  intro T hT X
  obtain ⟨U, ce, XU, e1, e2, e3, e4, e5, st2⟩ := x_npeAt X hexec (Launch.traces_off hX.1 X.admits) (x_ok hts hK hX.2.1 x_npeL) (fun x hx cell hc => hX.2.2 _ cell (hS.2.2 x hx) hc) (g := F0 m pc ls rest) rfl hml.symm hfr (x_room ls rest hl hlo) hRcells hRslots
  rw [hT] at e1 e2
  obtain ⟨t, a1, b1⟩ := kk T.heap.size U.heap ⟨ce, e3, e4, e5⟩ (hP.kept (fun k q hq => e2 q.1 ((hP k q hq).lt))) (x_S hS e1 e2) (by rw [e1]; omega) e2 U rfl XU
  exact ⟨t, hstep T hT X t (st2 t a1), b1⟩
/-- more room than was used -/
theorem wx_widen {x : Addr} {g : JFrame} {k n : Nat} (hk : cells ≤ k) (hn : slots ≤ n) (h : WX p l e R s m args below meth c H locs k n Q g x) : WX p l e R s m args below meth c H locs cells slots Q g x := by
  intro T hT X
  exact h T hT (stand_widen X hk hn)
theorem w_widen {g : JFrame} {k n : Nat} (hk : cells ≤ k) (hn : slots ≤ n) (h : W p l e R s m args below meth c H locs k n Q g) : W p l e R s m args below meth c H locs cells slots Q g := by
  intro T hT X
  exact h T hT (stand_widen X hk hn)
theorem XCx.at (hX : XCx l aS s A) (hS : va_S A s.heap H locs) {U : State} (hU : U.heap = H) (hW : s.WarmedH U.vm) : stS aS U :=
  stS.moved hW.alike (by rw [hU]; exact hS.2.1 aS hX.2.1.lt (hX.2.1.notIn hX.2.2)) hX.2.1
/-- a new array of less than no items -/
theorem w_neg (hexec : p.tables.exec = Jvm.exec) (hb : c.code = cc) (hml : c.maxLocals = ls.size) (hts : ∀ w ∈ lw_all, w.before args s = true) (hK : gK G s) (hX : XCx l aS s A) (hS : va_S A H0 H locs) (hP : va_P G.1 gCl ws H) {n : Int32} (hn : n < 0) {atype : ArrayType} (hdg : decode cc pc = .ok (.newarray atype, 2))
    (hl : (rest.map fun v => v.category).sum ≤ 8) (hfr : 7 < R.frames) (hlo : 10248 ≤ R.locals) (hRcells : cells + 3 ≤ R.cells) (hRslots : slots + (1000 + 10) ≤ R.slots)
    (kk : ∀ (x : Nat) (H1 : Heap), xObj s 3 x H1 → va_P G.1 gCl ws H1 → va_S A H0 H1 locs → H.size ≤ H1.size → (∀ q, q < H.size → H1[q]? = H[q]?) → WX p l e R s m args below meth c H1 locs (cells + 3) (slots + (1000 + 10)) Q (F0 m pc ls rest) x) : W p l e R s m args below meth c H locs cells slots Q (F0 m pc ls (.int n :: rest)) :=
  w_msg hexec hml hts hK hX hS hP 3 1000 (by omega) (by omega) (by omega) (fun T hT X => ⟨T, toString n, hT, X, negative_text_modelled hn, Nat.le_trans (negative_text_bytes n) (by omega), X.newarrayNegative hexec (g := F0 m pc ls (.int n :: rest)) rfl hn rfl (by rw [hb]; exact hdg)⟩) hl hfr hlo hRcells hRslots kk
theorem vin_out {i : Int32} {n : Nat} (h : ¬ vp_in i n) : i < 0 ∨ n ≤ i.toNatClampNeg := Classical.byContradiction h
theorem w_outB (hexec : p.tables.exec = Jvm.exec) (hb : c.code = cc) (hml : c.maxLocals = ls.size) (hts : ∀ w ∈ lw_all, w.before args s = true) (hK : gK G s) (hX : XCx l aS s A) (hS : va_S A H0 H locs) (hP : va_P G.1 gCl ws H) (q0 : Nat) {a n : Nat} {f : Nat → Int32} (ha : ws[q0]? = some (ay G a n f)) {i x : Int32} (hi : ¬ vp_in i n) (hn31 : n < 2 ^ 31) (hdg : decode cc pc = .ok (.bastore, 1))
    (hl : (rest.map fun v => v.category).sum ≤ 8) (hfr : 7 < R.frames) (hlo : 10248 ≤ R.locals) (hRcells : cells + 3 ≤ R.cells) (hRslots : slots + (1000 + 10) ≤ R.slots)
    (kk : ∀ (x : Nat) (H1 : Heap), xObj s 2 x H1 → va_P G.1 gCl ws H1 → va_S A H0 H1 locs → H.size ≤ H1.size → (∀ q, q < H.size → H1[q]? = H[q]?) → WX p l e R s m args below meth c H1 locs (cells + 3) (slots + (1000 + 10)) Q (F0 m pc ls rest) x) : W p l e R s m args below meth c H locs cells slots Q (F0 m pc ls (.int x :: .int i :: .ref a :: rest)) := by
  have hc : H[a]? = some (arrV (gTys G.2)[3].1 n (fun j => .int (f j))) := hP q0 _ ha
  have har := (hK.1.2 3 _ rfl).1 n (fun j => .int (f j))
  refine w_msg hexec hml hts hK hX hS hP 2 1000 (by omega) (by omega) (by omega) (fun T hT X => ⟨T, _, hT, X, index_text_modelled i n, Nat.le_trans (index_text_bytes i hn31) (by omega), ?_⟩) hl hfr hlo hRcells hRslots kk
  have := X.bastoreOut hexec (a := a) (j := i) (x := x) (by rw [hT]; exact hc) har (by rw [arrV_size]; exact vin_out hi) (g := F0 m pc ls (.int x :: .int i :: .ref a :: rest)) rfl rfl (by rw [hb]; exact hdg)
  rw [arrV_size] at this
  exact this
theorem w_outS (hexec : p.tables.exec = Jvm.exec) (hb : c.code = cc) (hml : c.maxLocals = ls.size) (hts : ∀ w ∈ lw_all, w.before args s = true) (hK : gK G s) (hX : XCx l aS s A) (hS : va_S A H0 H locs) (hP : va_P G.1 gCl ws H) (q0 : Nat) {a n : Nat} {f : Nat → Int32} (ha : ws[q0]? = some (ah G a n f)) {i x : Int32} (hi : ¬ vp_in i n) (hn31 : n < 2 ^ 31) (hdg : decode cc pc = .ok (.sastore, 1))
    (hl : (rest.map fun v => v.category).sum ≤ 8) (hfr : 7 < R.frames) (hlo : 10248 ≤ R.locals) (hRcells : cells + 3 ≤ R.cells) (hRslots : slots + (1000 + 10) ≤ R.slots)
    (kk : ∀ (x : Nat) (H1 : Heap), xObj s 2 x H1 → va_P G.1 gCl ws H1 → va_S A H0 H1 locs → H.size ≤ H1.size → (∀ q, q < H.size → H1[q]? = H[q]?) → WX p l e R s m args below meth c H1 locs (cells + 3) (slots + (1000 + 10)) Q (F0 m pc ls rest) x) : W p l e R s m args below meth c H locs cells slots Q (F0 m pc ls (.int x :: .int i :: .ref a :: rest)) := by
  have hc : H[a]? = some (arrV (gTys G.2)[4].1 n (fun j => .int (f j))) := hP q0 _ ha
  have har := (hK.1.2 4 _ rfl).1 n (fun j => .int (f j))
  refine w_msg hexec hml hts hK hX hS hP 2 1000 (by omega) (by omega) (by omega) (fun T hT X => ⟨T, _, hT, X, index_text_modelled i n, Nat.le_trans (index_text_bytes i hn31) (by omega), ?_⟩) hl hfr hlo hRcells hRslots kk
  have := X.sastoreOut hexec (a := a) (j := i) (x := x) (by rw [hT]; exact hc) har (by rw [arrV_size]; exact vin_out hi) (g := F0 m pc ls (.int x :: .int i :: .ref a :: rest)) rfl rfl (by rw [hb]; exact hdg)
  rw [arrV_size] at this
  exact this
theorem w_outI (hexec : p.tables.exec = Jvm.exec) (hb : c.code = cc) (hml : c.maxLocals = ls.size) (hts : ∀ w ∈ lw_all, w.before args s = true) (hK : gK G s) (hX : XCx l aS s A) (hS : va_S A H0 H locs) (hP : va_P G.1 gCl ws H) (q0 : Nat) {a n : Nat} {f : Nat → Int32} (ha : ws[q0]? = some (ai G a n f)) {i x : Int32} (hi : ¬ vp_in i n) (hn31 : n < 2 ^ 31) (hdg : decode cc pc = .ok (.iastore, 1))
    (hl : (rest.map fun v => v.category).sum ≤ 8) (hfr : 7 < R.frames) (hlo : 10248 ≤ R.locals) (hRcells : cells + 3 ≤ R.cells) (hRslots : slots + (1000 + 10) ≤ R.slots)
    (kk : ∀ (x : Nat) (H1 : Heap), xObj s 2 x H1 → va_P G.1 gCl ws H1 → va_S A H0 H1 locs → H.size ≤ H1.size → (∀ q, q < H.size → H1[q]? = H[q]?) → WX p l e R s m args below meth c H1 locs (cells + 3) (slots + (1000 + 10)) Q (F0 m pc ls rest) x) : W p l e R s m args below meth c H locs cells slots Q (F0 m pc ls (.int x :: .int i :: .ref a :: rest)) := by
  have hc : H[a]? = some (arrV (gTys G.2)[0].1 n (fun j => .int (f j))) := hP q0 _ ha
  have har := (hK.1.2 0 _ rfl).1 n (fun j => .int (f j))
  refine w_msg hexec hml hts hK hX hS hP 2 1000 (by omega) (by omega) (by omega) (fun T hT X => ⟨T, _, hT, X, index_text_modelled i n, Nat.le_trans (index_text_bytes i hn31) (by omega), ?_⟩) hl hfr hlo hRcells hRslots kk
  have := X.iastoreOut hexec (a := a) (j := i) (x := x) (by rw [hT]; exact hc) har (by rw [arrV_size]; exact vin_out hi) (g := F0 m pc ls (.int x :: .int i :: .ref a :: rest)) rfl rfl (by rw [hb]; exact hdg)
  rw [arrV_size] at this
  exact this
theorem w_outJ (hexec : p.tables.exec = Jvm.exec) (hb : c.code = cc) (hml : c.maxLocals = ls.size) (hts : ∀ w ∈ lw_all, w.before args s = true) (hK : gK G s) (hX : XCx l aS s A) (hS : va_S A H0 H locs) (hP : va_P G.1 gCl ws H) (q0 : Nat) {a n : Nat} {f : Nat → Int64} (ha : ws[q0]? = some (al G a n f)) {i : Int32} {x : Int64} (hi : ¬ vp_in i n) (hn31 : n < 2 ^ 31) (hdg : decode cc pc = .ok (.lastore, 1))
    (hl : (rest.map fun v => v.category).sum ≤ 8) (hfr : 7 < R.frames) (hlo : 10248 ≤ R.locals) (hRcells : cells + 3 ≤ R.cells) (hRslots : slots + (1000 + 10) ≤ R.slots)
    (kk : ∀ (x : Nat) (H1 : Heap), xObj s 2 x H1 → va_P G.1 gCl ws H1 → va_S A H0 H1 locs → H.size ≤ H1.size → (∀ q, q < H.size → H1[q]? = H[q]?) → WX p l e R s m args below meth c H1 locs (cells + 3) (slots + (1000 + 10)) Q (F0 m pc ls rest) x) : W p l e R s m args below meth c H locs cells slots Q (F0 m pc ls (.long x :: .int i :: .ref a :: rest)) := by
  have hc : H[a]? = some (arrV (gTys G.2)[1].1 n (fun j => .long (f j))) := hP q0 _ ha
  have har := (hK.1.2 1 _ rfl).1 n (fun j => .long (f j))
  refine w_msg hexec hml hts hK hX hS hP 2 1000 (by omega) (by omega) (by omega) (fun T hT X => ⟨T, _, hT, X, index_text_modelled i n, Nat.le_trans (index_text_bytes i hn31) (by omega), ?_⟩) hl hfr hlo hRcells hRslots kk
  have := X.lastoreOut hexec (a := a) (j := i) (x := x) (by rw [hT]; exact hc) har (by rw [arrV_size]; exact vin_out hi) (g := F0 m pc ls (.long x :: .int i :: .ref a :: rest)) rfl rfl (by rw [hb]; exact hdg)
  rw [arrV_size] at this
  exact this
theorem w_nullB (hexec : p.tables.exec = Jvm.exec) (hb : c.code = cc) (hml : c.maxLocals = ls.size) (hts : ∀ w ∈ lw_all, w.before args s = true) (hK : gK G s) (hX : XCx l aS s A) (hS : va_S A H0 H locs) (hP : va_P G.1 gCl ws H) {i x : Int32} (hdg : decode cc pc = .ok (.bastore, 1))
    (hl : (rest.map fun v => v.category).sum ≤ 8) (hfr : 7 < R.frames) (hlo : 10248 ≤ R.locals) (hRcells : cells + 3 ≤ R.cells) (hRslots : slots + (1000 + 10) ≤ R.slots)
    (kk : ∀ (x : Nat) (H1 : Heap), xObj s 0 x H1 → va_P G.1 gCl ws H1 → va_S A H0 H1 locs → H.size ≤ H1.size → (∀ q, q < H.size → H1[q]? = H[q]?) → WX p l e R s m args below meth c H1 locs (cells + 3) (slots + (1000 + 10)) Q (F0 m pc ls rest) x) : W p l e R s m args below meth c H locs cells slots Q (F0 m pc ls (.int x :: .int i :: .null :: rest)) :=
  w_npe hexec hml hts hK hX hS hP (fun T hT X => X.bastoreNull hexec (g := F0 m pc ls (.int x :: .int i :: .null :: rest)) rfl rfl (by rw [hb]; exact hdg)) hl hfr hlo (by omega) (by omega) (fun x H1 h1 h2 h3 h4 h5 => wx_widen (by omega) (by omega) (kk x H1 h1 h2 h3 h4 h5))
theorem w_nullS (hexec : p.tables.exec = Jvm.exec) (hb : c.code = cc) (hml : c.maxLocals = ls.size) (hts : ∀ w ∈ lw_all, w.before args s = true) (hK : gK G s) (hX : XCx l aS s A) (hS : va_S A H0 H locs) (hP : va_P G.1 gCl ws H) {i x : Int32} (hdg : decode cc pc = .ok (.sastore, 1))
    (hl : (rest.map fun v => v.category).sum ≤ 8) (hfr : 7 < R.frames) (hlo : 10248 ≤ R.locals) (hRcells : cells + 3 ≤ R.cells) (hRslots : slots + (1000 + 10) ≤ R.slots)
    (kk : ∀ (x : Nat) (H1 : Heap), xObj s 0 x H1 → va_P G.1 gCl ws H1 → va_S A H0 H1 locs → H.size ≤ H1.size → (∀ q, q < H.size → H1[q]? = H[q]?) → WX p l e R s m args below meth c H1 locs (cells + 3) (slots + (1000 + 10)) Q (F0 m pc ls rest) x) : W p l e R s m args below meth c H locs cells slots Q (F0 m pc ls (.int x :: .int i :: .null :: rest)) :=
  w_npe hexec hml hts hK hX hS hP (fun T hT X => X.sastoreNull hexec (g := F0 m pc ls (.int x :: .int i :: .null :: rest)) rfl rfl (by rw [hb]; exact hdg)) hl hfr hlo (by omega) (by omega) (fun x H1 h1 h2 h3 h4 h5 => wx_widen (by omega) (by omega) (kk x H1 h1 h2 h3 h4 h5))
theorem w_nullI (hexec : p.tables.exec = Jvm.exec) (hb : c.code = cc) (hml : c.maxLocals = ls.size) (hts : ∀ w ∈ lw_all, w.before args s = true) (hK : gK G s) (hX : XCx l aS s A) (hS : va_S A H0 H locs) (hP : va_P G.1 gCl ws H) {i x : Int32} (hdg : decode cc pc = .ok (.iastore, 1))
    (hl : (rest.map fun v => v.category).sum ≤ 8) (hfr : 7 < R.frames) (hlo : 10248 ≤ R.locals) (hRcells : cells + 3 ≤ R.cells) (hRslots : slots + (1000 + 10) ≤ R.slots)
    (kk : ∀ (x : Nat) (H1 : Heap), xObj s 0 x H1 → va_P G.1 gCl ws H1 → va_S A H0 H1 locs → H.size ≤ H1.size → (∀ q, q < H.size → H1[q]? = H[q]?) → WX p l e R s m args below meth c H1 locs (cells + 3) (slots + (1000 + 10)) Q (F0 m pc ls rest) x) : W p l e R s m args below meth c H locs cells slots Q (F0 m pc ls (.int x :: .int i :: .null :: rest)) :=
  w_npe hexec hml hts hK hX hS hP (fun T hT X => X.iastoreNull hexec (g := F0 m pc ls (.int x :: .int i :: .null :: rest)) rfl rfl (by rw [hb]; exact hdg)) hl hfr hlo (by omega) (by omega) (fun x H1 h1 h2 h3 h4 h5 => wx_widen (by omega) (by omega) (kk x H1 h1 h2 h3 h4 h5))
theorem w_nullJ (hexec : p.tables.exec = Jvm.exec) (hb : c.code = cc) (hml : c.maxLocals = ls.size) (hts : ∀ w ∈ lw_all, w.before args s = true) (hK : gK G s) (hX : XCx l aS s A) (hS : va_S A H0 H locs) (hP : va_P G.1 gCl ws H) {i : Int32} {x : Int64} (hdg : decode cc pc = .ok (.lastore, 1))
    (hl : (rest.map fun v => v.category).sum ≤ 8) (hfr : 7 < R.frames) (hlo : 10248 ≤ R.locals) (hRcells : cells + 3 ≤ R.cells) (hRslots : slots + (1000 + 10) ≤ R.slots)
    (kk : ∀ (x : Nat) (H1 : Heap), xObj s 0 x H1 → va_P G.1 gCl ws H1 → va_S A H0 H1 locs → H.size ≤ H1.size → (∀ q, q < H.size → H1[q]? = H[q]?) → WX p l e R s m args below meth c H1 locs (cells + 3) (slots + (1000 + 10)) Q (F0 m pc ls rest) x) : W p l e R s m args below meth c H locs cells slots Q (F0 m pc ls (.long x :: .int i :: .null :: rest)) :=
  w_npe hexec hml hts hK hX hS hP (fun T hT X => X.lastoreNull hexec (g := F0 m pc ls (.long x :: .int i :: .null :: rest)) rfl rfl (by rw [hb]; exact hdg)) hl hfr hlo (by omega) (by omega) (fun x H1 h1 h2 h3 h4 h5 => wx_widen (by omega) (by omega) (kk x H1 h1 h2 h3 h4 h5))
theorem w_castNo (hexec : p.tables.exec = Jvm.exec) (hb : c.code = cc) (hml : c.maxLocals = ls.size) (hts : ∀ w ∈ lw_all, w.before args s = true) (hK : gK G s) (hX : XCx l aS s A) (hS : va_S A H0 H locs) (hP : va_P G.1 gCl ws H) {own nm C : String} {index : Nat} (hown : s.vm.findClass own = some m.cls) (hlink : (Cond.classLink own index nm).before args s = true) (q0 : Nat) {a : Nat} {cA : ClassId} {y : vp_A} (ha : ws[q0]? = some (a, .inl (cA, y))) (hnm : s.vm.findClass C = some cA) (hc : va_Nc C nm s) (hpa : ∃ ka comp t, s.vm.classes[cA]? = some ka ∧ ka.kind = .array comp t) (hpb : ∃ (cB : ClassId) (kb : Class) (comp : ClassId) (t : FieldType), s.vm.findClass nm = some cB ∧ s.vm.classes[cB]? = some kb ∧ kb.kind = .array comp t) (hC : C ∈ x_pr) (hnmp : nm ∈ x_pr) (hdg : decode cc pc = .ok (.checkcast index, 3))
    (hl : ((Value.ref a :: rest).map fun v => v.category).sum ≤ 8) (hfr : 7 < R.frames) (hlo : 10248 ≤ R.locals) (hRcells : cells + 3 ≤ R.cells) (hRslots : slots + (1000 + 10) ≤ R.slots)
    (kk : ∀ (x : Nat) (H1 : Heap), xObj s 1 x H1 → va_P G.1 gCl ws H1 → va_S A H0 H1 locs → H.size ≤ H1.size → (∀ q, q < H.size → H1[q]? = H[q]?) → WX p l e R s m args below meth c H1 locs (cells + 3) (slots + (1000 + 10)) Q (F0 m pc ls (.ref a :: rest)) x) : W p l e R s m args below meth c H locs cells slots Q (F0 m pc ls (.ref a :: rest)) := by
  have hcell : H[a]? = some (vp_cell cA y) := hP q0 _ ha
  have hvm0 : (vp_cell cA y).vm = .none := by
    obtain ⟨n, f | f | f | f | f⟩ := y <;> rfl
  have hcl0 : (vp_cell cA y).cls = cA := by
    obtain ⟨n, f | f | f | f | f⟩ := y <;> rfl
  obtain ⟨c0, t0, f1, f2, f3⟩ := hc
  cases hnm.symm.trans f1
  refine w_msg hexec hml hts hK hX hS hP 1 1000 (by omega) (by omega) (by omega) (fun T hT X => ?_) hl hfr hlo hRcells hRslots kk
  have hpl : e.platform.magicAccessors = ({} : Platform).magicAccessors := by rw [X.admits.platform]
  obtain ⟨c', hc', hcl⟩ := Cond.classLink_spec hown hlink e.platform hpl
  cases f2.symm.trans hc'
  obtain ⟨dk, _, _, kt, hd, _, _, _, _, hkt, _, hopen⟩ := hcl.here
  obtain ⟨ks, compa, ta, hks, hka⟩ := hpa
  have hcl₀ := X.warmed.classLinks hcl
  have hW' : s.WarmedH (T.vm.noted m.cls index (.cls t0)) := X.warmed.noted hd hopen (State.rightAt_cls hcl)
  obtain ⟨ks', hks', hes⟩ := hW'.alike.2.2 _ _ hks
  obtain ⟨kt', hkt', het⟩ := hW'.alike.2.2 _ _ hkt
  obtain ⟨cB, kb, compb, tb, g1, g2, g3⟩ := hpb
  cases f2.symm.trans g1
  cases hkt.symm.trans g2
  have n1 := x_found (vm := T.vm.noted m.cls index (.cls t0)) (by rw [hW'.alike.findClass]; exact hnm) hks'
  have n2 := x_found (vm := T.vm.noted m.cls index (.cls t0)) (by rw [hW'.alike.findClass]; exact f2) hkt'
  obtain ⟨b1, b2⟩ := x_castText (vm := T.vm.noted m.cls index (.cls t0)) n1 n2 (x_prim n1 (by rw [hes]; exact hka) hC) (x_prim n2 (by rw [het]; exact g3) hnmp) hC hnmp
  refine ⟨T.setVm (T.vm.noted m.cls index (.cls t0)), checkcast.message (T.vm.noted m.cls index (.cls t0)) ks' kt', hT, X.noted hW', b2, b1, fun target hrest => ?_⟩
  have hdg' : decode c.code pc = .ok (.checkcast index, 3) := by rw [hb]; exact hdg
  jvm_step X.here [hexec, hdg', checkcast.wp_cold (e := e) (s := T) (f := F0 m pc ls (.ref a :: rest)) X.here.top rfl (resolveClass_links e.toSetting hcl₀) hcl₀.ready,
    checkcast.wp_ready (e := e) (s := T.setVm (T.vm.noted m.cls index (.cls t0))) (f := F0 m pc ls (.ref a :: rest)) X.here.top hcl₀.ready rfl]
  refine ⟨vp_cell cA y, (by rw [hT]; exact hcell), (fun k h9 => by rw [hvm0] at h9; cases h9), ks', (by rw [hcl0]; exact hks'), kt', hkt', ?_⟩
  rw [if_neg (by rw [hcl0, hW'.alike.assignable, f3]; decide)]
  exact hrest
end XI
