/-! exceptions that come out of a native method: made over its frame, which is left then -/
set_option maxRecDepth 100000
section XO
variable {p : Program} {e : Env} {below base : List Frame} {s₀ W S : State} {m₀ : MethodId} {c₀ : Code}
theorem xo_go (h : At W m₀ c₀ below) (F : List Frame) : (W.setFrames F).goesOn := ⟨h.running, by simpa using h.runnable, by simpa using h.alone⟩
theorem xo_cur (h : At W m₀ c₀ below) : W.cur < W.threads.size := by
  obtain ⟨g₀, hg⟩ := Option.isSome_iff_exists.mp h.top
  obtain ⟨r, hr⟩ := State.topJava?_eq_some.mp hg
  exact State.cur_lt_of_frames hr
theorem xo_fr (h : At W m₀ c₀ below) (F : List Frame) : (W.setFrames F).frames = F := State.frames_setFrames _ (xo_cur h)
theorem xo_in (h : At W m₀ c₀ below) (hb : ∃ mid, base = mid ++ below) (x : Frame) (hx : ∀ a, x ≠ .throwing a) : Within (W.setFrames (x :: base)) below := by
  obtain ⟨mid, hmid⟩ := hb
  refine ⟨x :: mid, by rw [xo_fr h, hmid]; rfl, by simp, fun a e => ?_⟩
  exact hx a (List.cons.inj e).1

theorem xo_insideS (h : At W m₀ c₀ below) (hb : ∃ mid, base = mid ++ below) (a str : Addr) {m : MethodId} {meth : Method} {code : Code} (hm : W.vm.method? m = some meth) (hc : meth.code = some code) (hplain : W.plainMethod m) :
    At ((W.setFrames (.thenThrow a :: base)).pushFrame (.java (passJ m a (.ref str) 0 []))) m code below ∧ ((W.setFrames (.thenThrow a :: base)).pushFrame (.java (passJ m a (.ref str) 0 []))).frames = .java (passJ m a (.ref str) 0 []) :: .thenThrow a :: base := by
  obtain ⟨mid, hmid⟩ := hb
  have hfN : (W.setFrames (.thenThrow a :: base)).frames = .thenThrow a :: base := xo_fr h _
  have hcurN : (W.setFrames (.thenThrow a :: base)).cur < (W.setFrames (.thenThrow a :: base)).threads.size := State.cur_lt_of_frames hfN
  refine ⟨At.pushOn _ (xo_go h _) hcurN ⟨.thenThrow a :: mid, by rw [hfN, hmid]; rfl⟩ hm hc hplain, ?_⟩
  have e1 : ((W.setFrames (.thenThrow a :: base)).pushFrame (.java (passJ m a (.ref str) 0 []))).frames = .java (passJ m a (.ref str) 0 []) :: (W.setFrames (.thenThrow a :: base)).frames := State.frames_setFrames _ hcurN
  rw [e1, hfN]
theorem xo_retS (h : At W m₀ c₀ below) (hb : ∃ mid, base = mid ++ below) (hexec : p.tables.exec = Jvm.exec) {H : State → State} (hH : HeapOnly H) (a str : Addr) {m : MethodId} {meth : Method} {code : Code} (hm : W.vm.method? m = some meth) (hc : meth.code = some code) (hplain : W.plainMethod m) (hl : meth.locks = false) (h5 : decode code.code 5 = .ok (.return_, 1)) {target : State}
    (hrest : Steps p.tables e below ((H W).setFrames (.throwing a :: base)) target) : Steps p.tables e below ((H ((W.setFrames (.thenThrow a :: base)).pushFrame (.java (passJ m a (.ref str) 0 [])))).setTop (passJ m a (.ref str) 5 [])) target := by
  obtain ⟨hI, hfI⟩ := xo_insideS h hb a str hm hc hplain
  have hB : At (H ((W.setFrames (.thenThrow a :: base)).pushFrame (.java (passJ m a (.ref str) 0 [])))) m code below := hH.at_ hI
  jvm_step hB [hexec, h5, return_.wp_sem]
  intro acts2
  have hfH : (H ((W.setFrames (.thenThrow a :: base)).pushFrame (.java (passJ m a (.ref str) 0 [])))).frames = .java (passJ m a (.ref str) 0 []) :: .thenThrow a :: base := by rw [hH.frames]; exact hfI
  rw [ret_to (t := H ((W.setFrames (.thenThrow a :: base)).pushFrame (.java (passJ m a (.ref str) 0 [])))) (f := passJ m a (.ref str) 5 []) (f₀ := passJ m a (.ref str) 0 []) (below := .thenThrow a :: base) (fs := .thenThrow a :: base) (meth := meth) hfH (by rw [hH.vm]; exact hm) hl rfl rfl rfl acts2]
  have hHI : ∀ F, (H ((W.setFrames (.thenThrow a :: base)).pushFrame (.java (passJ m a (.ref str) 0 [])))).setFrames F = (H W).setFrames F := by
    intro F
    rw [State.pushFrame, hH.setFrames, hH.setFrames, State.setFrames_setFrames, State.setFrames_setFrames]
  rw [hHI]
  have hAW : At (H W) m₀ c₀ below := hH.at_ h
  have hf1 : ((H W).setFrames (.thenThrow a :: base)).frames = .thenThrow a :: base := xo_fr hAW _
  refine Steps.head (xo_go hAW _) (xo_in hAW hb _ (fun z e => by cases e)) ?_
  rw [stepThread_thenThrow hf1]
  show Steps p.tables e below (((H W).setFrames (.thenThrow a :: base)).setFrames (.throwing a :: base)) target
  rw [State.setFrames_setFrames]
  exact hrest
theorem xo_ctorS (h : At W m₀ c₀ below) (hb : ∃ mid, base = mid ++ below) (hexec : p.tables.exec = Jvm.exec) {H : State → State} (hH : HeapOnly H) (P1 : PassC) (L1 : P1.LinksS e.platform s₀) (hW : s₀.WarmedH W.vm) (a str : Addr)
    (hroom : e.platform.stackFull (((W.setFrames (.thenThrow a :: base)).threads[(W.setFrames (.thenThrow a :: base)).cur]?).getD { frames := [] }) (W.setFrames (.thenThrow a :: base)).frames 2 = false)
    (hsup : ∀ vm1, s₀.WarmedH vm1 → At (((W.setVm vm1).setFrames (.thenThrow a :: base)).pushFrame (.java (passJ P1.m a (.ref str) 0 []))) P1.m P1.code below → ∃ vm2, s₀.WarmedH vm2 ∧ ∀ t' : State,
      Steps p.tables e below ((H (((W.setVm vm2).setFrames (.thenThrow a :: base)).pushFrame (.java (passJ P1.m a (.ref str) 0 [])))).setTop (passJ P1.m a (.ref str) 5 [])) t' →
      Steps p.tables e below (doInvoke e ((((W.setVm vm1).setFrames (.thenThrow a :: base)).pushFrame (.java (passJ P1.m a (.ref str) 0 []))).setTop (passJ P1.m a (.ref str) 2 [])) [] P1.sup #[.ref a, .ref str]).1 t') :
    ∃ vm', s₀.WarmedH vm' ∧ ∀ target, Steps p.tables e below ((H (W.setVm vm')).setFrames (.throwing a :: base)) target → Steps p.tables e below (doInvoke e (W.setFrames (.thenThrow a :: base)) [] P1.m #[.ref a, .ref str]).1 target := by
  have hmW := hW.methodAt L1.method
  obtain ⟨hI, hfI⟩ := xo_insideS h hb a str hmW L1.code (hW.plainAt L1.plain)
  obtain ⟨vm1, hW1, st1⟩ := Steps.invokeInitCold (tb := p.tables) (s₀ := s₀) (U := ((W.setFrames (.thenThrow a :: base)).pushFrame (.java (passJ P1.m a (.ref str) 0 [])))) (f := passJ P1.m a (.ref str) 2 [.ref str, .ref a]) (args := [.ref str]) (rest := []) (a := a) hI hexec L1.at2 hW L1.links L1.right L1.notHandle L1.cls L1.file L1.pool
    L1.supClass L1.supMethod L1.supName L1.supStatic L1.supAbstract L1.supFound L1.supParams.symm rfl
  obtain ⟨vm2, hW2, st2⟩ := hsup vm1 hW1 (hI.setVm (hW.alike.symm.trans hW1.alike))
  refine ⟨vm2, hW2, fun target hrest => ?_⟩
  rw [(doInvoke_java (s := (W.setFrames (.thenThrow a :: base))) (e := e) (acts := []) (args := #[.ref a, .ref str]) (meth := P1.meth) (code := P1.code) hmW L1.code L1.locks (by rw [L1.locals]; exact hroom)).1, L1.locals]
  show Steps p.tables e below ((W.setFrames (.thenThrow a :: base)).pushFrame (.java (passJ P1.m a (.ref str) 0 []))) target
  rw [← State.setTop_self (s := ((W.setFrames (.thenThrow a :: base)).pushFrame (.java (passJ P1.m a (.ref str) 0 [])))) (State.topJava?_of_frames hfI)]
  jvm_step hI [hexec, L1.at0, Value.isRef]
  jvm_step hI [hexec, L1.at1, Value.isRef]
  refine st1 target (st2 target ?_)
  exact xo_retS (W := W.setVm vm2) (h.setVm (hW.alike.symm.trans hW2.alike)) hb hexec hH a str (hW2.methodAt L1.method) L1.code (hW2.plainAt (U := W.setVm vm2) L1.plain) L1.locks L1.at5 hrest
theorem xo_inside0 (h : At W m₀ c₀ below) (hb : ∃ mid, base = mid ++ below) (a : Addr) {m : MethodId} {meth : Method} {code : Code} (hm : W.vm.method? m = some meth) (hc : meth.code = some code) (hplain : W.plainMethod m) :
    At ((W.setFrames (.thenThrow a :: base)).pushFrame (.java (pass0J m a 0 []))) m code below ∧ ((W.setFrames (.thenThrow a :: base)).pushFrame (.java (pass0J m a 0 []))).frames = .java (pass0J m a 0 []) :: .thenThrow a :: base := by
  obtain ⟨mid, hmid⟩ := hb
  have hfN : (W.setFrames (.thenThrow a :: base)).frames = .thenThrow a :: base := xo_fr h _
  have hcurN : (W.setFrames (.thenThrow a :: base)).cur < (W.setFrames (.thenThrow a :: base)).threads.size := State.cur_lt_of_frames hfN
  refine ⟨At.pushOn _ (xo_go h _) hcurN ⟨.thenThrow a :: mid, by rw [hfN, hmid]; rfl⟩ hm hc hplain, ?_⟩
  have e1 : ((W.setFrames (.thenThrow a :: base)).pushFrame (.java (pass0J m a 0 []))).frames = .java (pass0J m a 0 []) :: (W.setFrames (.thenThrow a :: base)).frames := State.frames_setFrames _ hcurN
  rw [e1, hfN]
theorem xo_ret0 (h : At W m₀ c₀ below) (hb : ∃ mid, base = mid ++ below) (hexec : p.tables.exec = Jvm.exec) {H : State → State} (hH : HeapOnly H) (a : Addr) {m : MethodId} {meth : Method} {code : Code} (hm : W.vm.method? m = some meth) (hc : meth.code = some code) (hplain : W.plainMethod m) (hl : meth.locks = false) (h5 : decode code.code 4 = .ok (.return_, 1)) {target : State}
    (hrest : Steps p.tables e below ((H W).setFrames (.throwing a :: base)) target) : Steps p.tables e below ((H ((W.setFrames (.thenThrow a :: base)).pushFrame (.java (pass0J m a 0 [])))).setTop (pass0J m a 4 [])) target := by
  obtain ⟨hI, hfI⟩ := xo_inside0 h hb a hm hc hplain
  have hB : At (H ((W.setFrames (.thenThrow a :: base)).pushFrame (.java (pass0J m a 0 [])))) m code below := hH.at_ hI
  jvm_step hB [hexec, h5, return_.wp_sem]
  intro acts2
  have hfH : (H ((W.setFrames (.thenThrow a :: base)).pushFrame (.java (pass0J m a 0 [])))).frames = .java (pass0J m a 0 []) :: .thenThrow a :: base := by rw [hH.frames]; exact hfI
  rw [ret_to (t := H ((W.setFrames (.thenThrow a :: base)).pushFrame (.java (pass0J m a 0 [])))) (f := pass0J m a 4 []) (f₀ := pass0J m a 0 []) (below := .thenThrow a :: base) (fs := .thenThrow a :: base) (meth := meth) hfH (by rw [hH.vm]; exact hm) hl rfl rfl rfl acts2]
  have hHI : ∀ F, (H ((W.setFrames (.thenThrow a :: base)).pushFrame (.java (pass0J m a 0 [])))).setFrames F = (H W).setFrames F := by
    intro F
    rw [State.pushFrame, hH.setFrames, hH.setFrames, State.setFrames_setFrames, State.setFrames_setFrames]
  rw [hHI]
  have hAW : At (H W) m₀ c₀ below := hH.at_ h
  have hf1 : ((H W).setFrames (.thenThrow a :: base)).frames = .thenThrow a :: base := xo_fr hAW _
  refine Steps.head (xo_go hAW _) (xo_in hAW hb _ (fun z e => by cases e)) ?_
  rw [stepThread_thenThrow hf1]
  show Steps p.tables e below (((H W).setFrames (.thenThrow a :: base)).setFrames (.throwing a :: base)) target
  rw [State.setFrames_setFrames]
  exact hrest
theorem xo_ctor0 (h : At W m₀ c₀ below) (hb : ∃ mid, base = mid ++ below) (hexec : p.tables.exec = Jvm.exec) {H : State → State} (hH : HeapOnly H) (P1 : PassC) (L1 : P1.Links0 e.platform s₀) (hW : s₀.WarmedH W.vm) (a : Addr)
    (hroom : e.platform.stackFull (((W.setFrames (.thenThrow a :: base)).threads[(W.setFrames (.thenThrow a :: base)).cur]?).getD { frames := [] }) (W.setFrames (.thenThrow a :: base)).frames 1 = false)
    (hsup : ∀ vm1, s₀.WarmedH vm1 → At (((W.setVm vm1).setFrames (.thenThrow a :: base)).pushFrame (.java (pass0J P1.m a 0 []))) P1.m P1.code below → ∃ vm2, s₀.WarmedH vm2 ∧ ∀ t' : State,
      Steps p.tables e below ((H (((W.setVm vm2).setFrames (.thenThrow a :: base)).pushFrame (.java (pass0J P1.m a 0 [])))).setTop (pass0J P1.m a 4 [])) t' →
      Steps p.tables e below (doInvoke e ((((W.setVm vm1).setFrames (.thenThrow a :: base)).pushFrame (.java (pass0J P1.m a 0 []))).setTop (pass0J P1.m a 1 [])) [] P1.sup #[.ref a]).1 t') :
    ∃ vm', s₀.WarmedH vm' ∧ ∀ target, Steps p.tables e below ((H (W.setVm vm')).setFrames (.throwing a :: base)) target → Steps p.tables e below (doInvoke e (W.setFrames (.thenThrow a :: base)) [] P1.m #[.ref a]).1 target := by
  have hmW := hW.methodAt L1.method
  obtain ⟨hI, hfI⟩ := xo_inside0 h hb a hmW L1.code (hW.plainAt L1.plain)
  obtain ⟨vm1, hW1, st1⟩ := Steps.invokeInitCold (tb := p.tables) (s₀ := s₀) (U := ((W.setFrames (.thenThrow a :: base)).pushFrame (.java (pass0J P1.m a 0 [])))) (f := pass0J P1.m a 1 [.ref a]) (args := []) (rest := []) (a := a) hI hexec L1.at1 hW L1.links L1.right L1.notHandle L1.cls L1.file L1.pool
    L1.supClass L1.supMethod L1.supName L1.supStatic L1.supAbstract L1.supFound L1.supParams.symm rfl
  obtain ⟨vm2, hW2, st2⟩ := hsup vm1 hW1 (hI.setVm (hW.alike.symm.trans hW1.alike))
  refine ⟨vm2, hW2, fun target hrest => ?_⟩
  rw [(doInvoke_java (s := (W.setFrames (.thenThrow a :: base))) (e := e) (acts := []) (args := #[.ref a]) (meth := P1.meth) (code := P1.code) hmW L1.code L1.locks (by rw [L1.locals]; exact hroom)).1, L1.locals]
  show Steps p.tables e below ((W.setFrames (.thenThrow a :: base)).pushFrame (.java (pass0J P1.m a 0 []))) target
  rw [← State.setTop_self (s := ((W.setFrames (.thenThrow a :: base)).pushFrame (.java (pass0J P1.m a 0 [])))) (State.topJava?_of_frames hfI)]
  jvm_step hI [hexec, L1.at0, Value.isRef]
  refine st1 target (st2 target ?_)
  exact xo_ret0 (W := W.setVm vm2) (h.setVm (hW.alike.symm.trans hW2.alike)) hb hexec hH a (hW2.methodAt L1.method) L1.code (hW2.plainAt (U := W.setVm vm2) L1.plain) L1.locks L1.at4 hrest
end XO
