/-! calls of methods out of which the machine's own exceptions come -/
set_option maxRecDepth 100000
/-- a contract's end: it returns, or throws a new exception of a kind -/
def va_QEv {S : Type} (post : S → Prop) (postX : Nat → Prop) (B : S → State → Prop) (BX : State → Prop) (A : Nat → Prop) : Array Value → State → Outcome → State → Prop := fun _ st oc t => ((∃ u : S, oc = .returned none ∧ post u ∧ B u t) ∨ (∃ k x : Nat, oc = .threw x ∧ postX k ∧ xObj t k x t.heap ∧ BX t)) ∧ va_F A st t
section XE
variable {p : Program} {l : Launch} {e : Env} {R : Room} {s : State} {m : MethodId} {args : Array Value} {below : List Frame} {meth : Method} {c : Code} {H : Heap} {locs : List Loc} {cells slots : Nat} {Q : State → Prop}
theorem va_callEv {pc : Nat} {ls : Array Slot} {rest st0 : List Value} {a : Array Value} {A0 A1 : Nat → Prop} {H0 : Heap} {mc ms : Nat} {free : Addr → Prop} {S : Type} {post : S → Prop} {postX : Nat → Prop} {B : S → State → Prop} {BX : State → Prop}
    (hr : va_RunT p l e R s m args below meth c H locs cells slots mc ms (F0 m pc ls st0) rest (va_QEv post postX B BX A1 a) free) (hS : va_S A0 H0 H locs) (hA : ∀ q, q < H.size → A1 q → A0 q) (hf : ∀ q, free q → A0 q)
    (kk : ∀ (u : S) (t : State) (H1 : Heap) (locs1 : List Loc), t.heap = H1 → s.vm.Alike t.vm → post u → B u t → H.size ≤ H1.size → (∀ q : Nat, q < H.size → ¬ A1 q → H1[q]? = H[q]?) → va_S A0 H0 H1 locs1 → W p l e R s m args below meth c H1 locs1 (cells + mc) (slots + ms) Q (F0 m (pc + 3) ls rest))
    (kx : ∀ (k x : Nat) (t : State) (H1 : Heap) (locs1 : List Loc), t.heap = H1 → s.vm.Alike t.vm → postX k → xObj s k x H1 → BX t → H.size ≤ H1.size → (∀ q : Nat, q < H.size → ¬ A1 q → H1[q]? = H[q]?) → va_S A0 H0 H1 locs1 → WX p l e R s m args below meth c H1 locs1 (cells + mc) (slots + ms) Q (F0 m pc ls rest) x) :
    W p l e R s m args below meth c H locs cells slots Q (F0 m pc ls st0) := by
  intro T hT X
  obtain ⟨o, st₀, t, T', L, h0, X', hL, e1, e2, ⟨hq, hz, hk⟩, st, hend⟩ := hr T hT X
  rw [h0] at hz hk
  have hS' : va_S A0 H0 T'.heap (locs ++ L) := ⟨Nat.le_trans hS.1 (by rw [e1]; exact hz), fun q h1 h2 => by rw [e1, hk q (Nat.lt_of_lt_of_le h1 hS.1) (fun z => h2 (hA q (Nat.lt_of_lt_of_le h1 hS.1) z))]; exact hS.2.1 q h1 h2, fun q hq => by
      rcases List.mem_append.mp hq with h | h
      · exact hS.2.2 q h
      · exact hf _ (hL q h)⟩
  have hvm : s.vm.Alike t.vm := by rw [← e2]; exact X'.warmed.alike
  rcases hq with ⟨u, hv, hp, hb⟩ | ⟨k, x, hv, hp, hxo, hb⟩
  · subst hv
    obtain ⟨t2, a1, b1⟩ := kk u t T'.heap (locs ++ L) e1.symm hvm hp hb (by rw [e1]; exact hz) (fun q h1 h2 => by rw [e1]; exact hk q h1 h2) hS' T' rfl X'
    have hend : t = T'.setTop (F0 m (pc + 3) ls rest) := hend
    rw [← hend] at a1
    exact ⟨t2, st t2 a1, b1⟩
  · subst hv
    obtain ⟨ce, y1, y2, y3⟩ := hxo
    obtain ⟨t2, a1, b1⟩ := kx k x t T'.heap (locs ++ L) e1.symm hvm hp ⟨ce, by rw [e1]; exact y1, y2, by rw [← hvm.findClass]; exact y3⟩ hb (by rw [e1]; exact hz) (fun q h1 h2 => by rw [e1]; exact hk q h1 h2) hS' T' rfl X'
    have hend : t = (T'.setTop (F0 m pc ls rest)).pushFrame (.throwing x) := hend
    rw [← hend] at a1
    exact ⟨t2, st t2 a1, b1⟩
/-- a method is left by a new exception -/
theorem wx_leaveE {S : Type} {post : S → Prop} {postX : Nat → Prop} {B : S → State → Prop} {BX : State → Prop} {A : Nat → Prop} {pc : Nat} {ls : Array Slot} {st : List Value} {x k : Nat} (hno : c.exceptionTable.isEmpty = true) (hlocks : meth.locks = false) (hx : xObj s k x H) (hw : postX k) (hB : ∀ t : State, t.heap = H → BX t) (hS : va_S A s.heap H locs) : WX p l e R s m args below meth c H locs cells slots (MQT below (va_QEv post postX B BX A) args s cells slots A) (F0 m pc ls st) x := by
  refine wx_leave hno hlocks (fun t ht hW => ⟨Or.inr ⟨k, x, rfl, hw, ?_, hB t ht⟩, hS.F ht⟩) hS.2.2
  obtain ⟨ce, y1, y2, y3⟩ := hx
  exact ⟨ce, by rw [ht]; exact y1, y2, by rw [hW.alike.findClass]; exact y3⟩
theorem x_pass {pc : Nat} {z : ExceptionTableEntry} (hz : covers z pc = true) (h0 : z.catchType ≠ 0) {own name N : String} (hown : s.vm.findClass own = some m.cls) (hlink : (Cond.classLink own z.catchType name).before args s = true) (hnc : va_Nc N name s) {cls : ClassId} (hcls : s.vm.findClass N = some cls) (pl : Platform) (hpl : pl.magicAccessors = ({} : Platform).magicAccessors) : xPass pl s m.cls pc cls z := by
  obtain ⟨c', hc', hcl⟩ := Cond.classLink_spec hown hlink pl hpl
  obtain ⟨c1, t1, f1, f2, f3⟩ := hnc
  cases f1.symm.trans hcls
  cases f2.symm.trans hc'
  exact ⟨hz, h0, _, hcl, f3⟩
theorem x_asg {C D : String} (h : (Cond.castable C D).before args s = true) {cc dd : ClassId} (hc : s.vm.findClass C = some cc) (hd : s.vm.findClass D = some dd) : s.vm.assignable cc dd = true := by
  obtain ⟨c1, d1, f1, f2, f3⟩ := Cond.castable_spec h
  cases f1.symm.trans hc
  cases f2.symm.trans hd
  exact f3
end XE
theorem x_arr {D : va_G} {cl : List vw_C} {tys : List (ClassId × FieldType)} {s : State} (hK : va_K D cl tys s) (t0 : Nat) {cA : ClassId} {ty : FieldType} (ht : tys[t0]? = some (cA, ty)) : ∃ ka comp t, s.vm.classes[cA]? = some ka ∧ ka.kind = .array comp t := by
  obtain ⟨k, hk, comp, hkind⟩ := ((hK.2 t0 _ ht).1 0 (fun _ => .null)).2
  exact ⟨k, comp, _, hk, hkind⟩
theorem x_arrN {D : va_G} {cl : List vw_C} {tys : List (ClassId × FieldType)} {s : State} (hK : va_K D cl tys s) (t0 : Nat) {cA : ClassId} {ty : FieldType} (ht : tys[t0]? = some (cA, ty)) {nm : String} (hnm : s.vm.findClass nm = some cA) : ∃ (cB : ClassId) (kb : Class) (comp : ClassId) (t : FieldType), s.vm.findClass nm = some cB ∧ s.vm.classes[cB]? = some kb ∧ kb.kind = .array comp t := by
  obtain ⟨k, comp, t, hk, hkind⟩ := x_arr hK t0 ht
  exact ⟨cA, k, comp, t, hnm, hk, hkind⟩
theorem x_same {D : va_G} {cl : List vw_C} {tys : List (ClassId × FieldType)} {s : State} {cA cB : ClassId} {ty : FieldType} (hK : va_K D cl tys s) (hK1 : va_K D cl (tys ++ [(cA, ty)]) s) (t0 : Nat) (ht : tys[t0]? = some (cB, ty)) : cA = cB := by
  have h1 := (hK.2 t0 _ ht).2
  have h2 := (hK1.2 tys.length (cA, ty) (by simp)).2
  cases ty with
  | object C =>
    obtain ⟨_, _, _, _, _, g1⟩ := h1
    obtain ⟨_, _, _, _, _, g2⟩ := h2
    exact Option.some.inj (g2.symm.trans g1)
  | _ => exact Option.some.inj (Eq.trans (Eq.symm h2) h1)
