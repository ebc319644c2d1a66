/-! the machine's own exceptions in a walk -/
set_option maxRecDepth 100000
def xN : Nat → String
  | 0 => "java/lang/NullPointerException"
  | 1 => "java/lang/ClassCastException"
  | 2 => "java/lang/ArrayIndexOutOfBoundsException"
  | 3 => "java/lang/NegativeArraySizeException"
  | _ => "java/lang/ArrayStoreException"
def xUp : Nat → List String
  | 2 => Bundle.idxUp
  | _ => ["java/lang/RuntimeException", "java/lang/Exception"]
/-- an exception of kind k lies at x -/
def xObj (s : State) (k x : Nat) (H : Heap) : Prop := ∃ ce : Cell, H[x]? = some ce ∧ ce.vm = .none ∧ s.vm.findClass (xN k) = some ce.cls
/-- what the making of exceptions rests on -/
def XCx (l : Launch) (aS : Nat) (s : State) (A : Nat → Prop) : Prop := l.flags = pinnedFlags ++ [noTraceFlag] ∧ stS aS s ∧ ∀ (q : Nat) (cell : Cell), A q → s.heap[q]? = some cell → cell.vm.isStatics = false
def x_in (a : Cond) : Bool := (decide (a ∈ lw_tbl) && (goodWord a || (nestWord a && a.onTables))) || decide (a = stUn) || decide (a = stSe) || decide (a = stUr) || decide (a = stSr)
theorem x_ok {G : GT} {s : State} {args : Array Value} (hts : ∀ w ∈ lw_all, w.before args s = true) (hK : gK G s) {aS : Nat} (hst : stS aS s) {L : List Cond} (hL : L.all x_in = true) : ∀ a ∈ L, a.before args s = true := by
  intro a ha
  have h := List.all_eq_true.mp hL a ha
  unfold x_in at h
  simp only [Bool.or_eq_true, Bool.and_eq_true, decide_eq_true_eq] at h
  obtain ⟨⟨w1, w2, w3, w4⟩, -⟩ := hst
  rcases h with (((⟨h1, h2⟩ | h) | h) | h) | h
  · rcases h2 with h2 | h2
    · exact hts a (List.mem_filter.mpr ⟨h1, h2⟩)
    · exact hK.n h1 (by rw [Bool.and_eq_true]; exact h2)
  · subst h; exact w1
  · subst h; exact w2
  · subst h; exact w3
  · subst h; exact w4
theorem x_npeL : (Bundle.npeArmAtoms 8).all x_in = true := by decide +kernel
theorem x_msgL : ∀ k, k < 5 → 1 ≤ k → (Bundle.messageArmAtoms (xN k) (xUp k)).all x_in = true := by decide +kernel
