/-! the abstract machine and the real one: how a call is entered -/
section EN
variable {p : Program} {l : Launch} {e : Env} {R : Room} {s : State} {m : MethodId} {args : Array Value} {below : List Frame} {meth : Method} {c : Code} {T : State} {locs : List Loc} {cells slots : Nat}
/-- the call has been laid down: the method of that name is about to be entered -/
def Ent (p : Program) (l : Launch) (e : Env) (R : Room) (s : State) (m : MethodId) (args : Array Value) (below : List Frame) (meth : Method) (c : Code) (T : State) (locs : List Loc) (cells slots : Nat) (g : JFrame) (rest : List Value) (y : MethodName) (a : Array Value) : Prop :=
  ∃ (mk : MethodId) (vm1 : Vm), Stand p l e R s m args below meth c (T.setVm vm1) locs cells slots ∧ (T.setVm vm1).methodNamed? y = some mk ∧
    ∀ target, (∀ acts, Steps p.tables e below (doInvoke e ((T.setVm vm1).setTop { g with stack := rest }) acts mk a).1 target) → Steps p.tables e below (T.setTop g) target
theorem ent_S (X : Stand p l e R s m args below meth c T locs cells slots) (hx : p.tables.exec = Jvm.exec) {own : String} {idx : Nat} {y : MethodName} {bytes : ByteArray} {maxL : Nat} {ret : Option FieldType}
    (hown : s.vm.findClass own = some m.cls) (hl : (Cond.methodLink own idx y).before args s = true ∨ ∃ host, (Cond.methodLinkNest own idx y host).before args s = true) (hst : (Cond.static y).before args s = true) (hini : (Cond.initialized y.cls).before args s = true)
    (hcode : (Cond.code y bytes maxL ret).before args s = true) (hy : y.cls ≠ "java/lang/invoke/MethodHandle" ∧ y.cls ≠ "java/lang/invoke/VarHandle") {g : JFrame} (hg : g.method = m) {As rest : List Value} {n : Nat} (hn : As.length = n) (hlen : (parseMethodDescriptor y.desc).map (fun d => d.parameters.length) = some n)
    (hstack : g.stack = As.reverse ++ rest) (hdg : decode c.code g.pc = .ok (.invokestatic idx, 3)) : Ent p l e R s m args below meth c T locs cells slots g rest y As.toArray := by
  obtain ⟨mk, hnamed⟩ := Cond.code_named hcode
  obtain ⟨methM, cM, hmethM, -, -, -, -, -, -, hsigM⟩ := Cond.code_spec hnamed hcode
  have hstatic : methM.isStatic = true := Cond.static_spec hnamed hmethM hst
  obtain ⟨kP, hkP, -⟩ := className_of_methodNamed hnamed
  have hinitP : kP.init = .initialized := Cond.initialized_spec (findClass_of_methodNamed hnamed) hkP hini
  have hl2 : As.length = methM.sig.parameters.length := by rw [hsigM] at hlen; rw [hn]; exact (Option.some.inj hlen).symm
  rcases hl with hl | ⟨host, hl⟩
  · obtain ⟨vm1, X1, hstep⟩ := X.invokestatic hx hown hl hnamed hmethM hstatic hkP hinitP hy (g := g) hg (argsL := As) (rest := rest) hl2 hstack hdg
    exact ⟨mk, vm1, X1, X1.named hnamed, fun target h => hstep _ h⟩
  · obtain ⟨vm1, X1, hstep⟩ := X.invokestaticNest hx hown hl hnamed hmethM hstatic hkP hinitP hy (g := g) hg (argsL := As) (rest := rest) hl2 hstack hdg
    exact ⟨mk, vm1, X1, X1.named hnamed, fun target h => hstep _ h⟩
theorem ent_V (X : Stand p l e R s m args below meth c T locs cells slots) (hx : p.tables.exec = Jvm.exec) {own C : String} {idx : Nat} {y : MethodName}
    (hown : s.vm.findClass own = some m.cls) (hl : (Cond.methodLink own idx y).before args s = true ∨ ∃ host, (Cond.methodLinkNest own idx y host).before args s = true) (hinst : (Cond.instanceMethod y).before args s = true) (hsel : (Cond.selects C y y).before args s = true)
    (hcode : ∃ mk methM, s.methodNamed? y = some mk ∧ s.vm.method? mk = some methM ∧ parseMethodDescriptor y.desc = some methM.sig) (hy : y.cls ≠ "java/lang/invoke/MethodHandle" ∧ y.cls ≠ "java/lang/invoke/VarHandle")
    {b : Addr} (hr : ∃ cell : Cell, T.heap[b]? = some cell ∧ cell.vm.isStatics = false ∧ s.vm.findClass C = some cell.cls)
    {g : JFrame} (hg : g.method = m) {As rest : List Value} {n : Nat} (hn : As.length = n) (hlen : (parseMethodDescriptor y.desc).map (fun d => d.parameters.length) = some n)
    (hstack : g.stack = As.reverse ++ .ref b :: rest) (hdg : decode c.code g.pc = .ok (.invokevirtual idx, 3)) : Ent p l e R s m args below meth c T locs cells slots g rest y (Value.ref b :: As).toArray := by
  obtain ⟨cellB, hcell, hobj, hcls⟩ := hr
  obtain ⟨mk, methM, hnamed, hmethM, hstM, habM⟩ := Cond.instanceMethod_spec hinst
  obtain ⟨mk', methM', hnamed', hmethM', hsigM⟩ := hcode
  cases hnamed.symm.trans hnamed'
  cases hmethM.symm.trans hmethM'
  obtain ⟨c2, r2, m2, q1, q2, q3, q4, kP, hkP, hkPi⟩ := Cond.selects_spec hsel
  cases hcls.symm.trans q1
  cases (State.methodFound?_of_named hnamed hy).symm.trans q2
  cases hnamed.symm.trans q3
  have hselP : selectMethod e.platform s.vm cellB.cls mk = .method mk := by rw [Launch.admits_selectMethod X.admits]; exact q4
  have hl2 : As.length = methM.sig.parameters.length := by rw [hsigM] at hlen; rw [hn]; exact (Option.some.inj hlen).symm
  rcases hl with hl | ⟨host, hl⟩
  · obtain ⟨vm1, X1, hstep⟩ := X.invokevirtual hx hown hl hnamed hmethM hstM hkP hkPi hy (a := b) (cell := cellB) hcell (fun z h => by rw [h] at hobj; cases hobj) hselP hmethM habM hkP hkPi (g := g) hg (argsL := As) (rest := rest) hl2 hstack hdg
    exact ⟨mk, vm1, X1, X1.named hnamed, fun target h => hstep _ h⟩
  · obtain ⟨vm1, X1, hstep⟩ := X.invokevirtualNest hx hown hl hnamed hmethM hstM hkP hkPi hy (a := b) (cell := cellB) hcell (fun z h => by rw [h] at hobj; cases hobj) hselP hmethM habM hkP hkPi (g := g) hg (argsL := As) (rest := rest) hl2 hstack hdg
    exact ⟨mk, vm1, X1, X1.named hnamed, fun target h => hstep _ h⟩
theorem ent_I2 (X : Stand p l e R s m args below meth c T locs cells slots) (hx : p.tables.exec = Jvm.exec) {own : String} {idx : Nat} {y : MethodName} {bytes : ByteArray} {maxL : Nat}
    (hown : s.vm.findClass own = some m.cls) (hy1 : y.name = "<init>") (hl : (Cond.methodLink own idx y).before args s = true ∨ ∃ host, (Cond.methodLinkNest own idx y host).before args s = true) (hinst : (Cond.instanceMethod y).before args s = true)
    (hcode : (Cond.code y bytes maxL none).before args s = true) (hy : y.cls ≠ "java/lang/invoke/MethodHandle" ∧ y.cls ≠ "java/lang/invoke/VarHandle") {b : Addr}
    {g : JFrame} (hg : g.method = m) {As rest : List Value} {n : Nat} (hn : As.length = n) (hlen : (parseMethodDescriptor y.desc).map (fun d => d.parameters.length) = some n)
    (hstack : g.stack = As.reverse ++ .ref b :: rest) (hdg : decode c.code g.pc = .ok (.invokespecial idx, 3)) : Ent p l e R s m args below meth c T locs cells slots g rest y (Value.ref b :: As).toArray := by
  subst hg
  have hpl : e.platform.magicAccessors = ({} : Platform).magicAccessors := by rw [X.admits.platform]
  have hlen' : ∀ sig, parseMethodDescriptor y.desc = some sig → As.length = sig.parameters.length := by
    intro sig h
    rw [h] at hlen
    rw [hn]
    exact (Option.some.inj hlen).symm
  rcases hl with hl | ⟨host, hl⟩
  · obtain ⟨mk, methM, cM, kP, vm1, hnamed, hmethM, hcodeM, -, hlocalsM, -, hkP, -, hW1, hstep⟩ := Steps.initColdArgs (e := e) X.here hx X.warmed hpl hown hy1 hy hl hinst hcode (f := g) rfl hlen' hstack hdg
    have X1 := X.noted hW1
    exact ⟨mk, vm1, X1, X1.named hnamed, fun target h => hstep _ h⟩
  · obtain ⟨mk, methM, cM, kP, vm1, hnamed, hmethM, hcodeM, -, hlocalsM, -, hkP, -, hW1, hstep⟩ := Steps.initColdArgsNest (e := e) X.here hx X.warmed hpl hown hy1 hy hl hinst hcode (f := g) rfl hlen' hstack hdg
    have X1 := X.noted hW1
    exact ⟨mk, vm1, X1, X1.named hnamed, fun target h => hstep _ h⟩
theorem ent_U (X : Stand p l e R s m args below meth c T locs cells slots) (hx : p.tables.exec = Jvm.exec) {own C owner : String} {idx : Nat} {x y : MethodName}
    (hown : s.vm.findClass own = some m.cls) (hl : (Cond.methodLink own idx x).before args s = true) (hsame : (Cond.sameMethod x.cls owner x.name x.desc).before args s = true) (hd0 : va_Nw (.declares ⟨owner, x.name, x.desc⟩) s) (howner : owner ≠ "java/lang/invoke/MethodHandle" ∧ owner ≠ "java/lang/invoke/VarHandle")
    (hsel : (Cond.selects C x y).before args s = true) (hinst : (Cond.instanceMethod y).before args s = true)
    {b : Addr} (hr : ∃ cell : Cell, T.heap[b]? = some cell ∧ cell.vm.isStatics = false ∧ s.vm.findClass C = some cell.cls)
    {g : JFrame} (hg : g.method = m) {As rest : List Value} {n : Nat} (hn : As.length = n) (hlen : (parseMethodDescriptor x.desc).map (fun d => d.parameters.length) = some n)
    (hstack : g.stack = As.reverse ++ .ref b :: rest) (hdg : decode c.code g.pc = .ok (.invokevirtual idx, 3)) : Ent p l e R s m args below meth c T locs cells slots g rest y (Value.ref b :: As).toArray := by
  obtain ⟨cellB, hcell, hobj, hcls⟩ := hr
  obtain ⟨r0, r, hn0, hrm, hstR, hsigR⟩ : va_Decl s ⟨owner, x.name, x.desc⟩ := va_Decl.abs hd0
  obtain ⟨cn, ck, r1, hcn, hck, hni, hf, hn1⟩ := Cond.sameMethod_found hsame
  cases hn0.symm.trans hn1
  obtain ⟨mk, methM, hnamed, hmethM, -, habM⟩ := Cond.instanceMethod_spec hinst
  obtain ⟨c2, r2, m2, q1, q2, q3, q4, kP, hkP, hkPi⟩ := Cond.selects_spec hsel
  cases hcls.symm.trans q1
  cases hf.symm.trans q2
  cases hnamed.symm.trans q3
  have hselP : selectMethod e.platform s.vm cellB.cls r0 = .method mk := by rw [Launch.admits_selectMethod X.admits]; exact q4
  have hl2 : As.length = r.sig.parameters.length := by
    have hsigR : parseMethodDescriptor x.desc = some r.sig := hsigR
    rw [hsigR] at hlen
    rw [hn]
    exact (Option.some.inj hlen).symm
  obtain ⟨vm1, X1, hstep⟩ := X.invokevirtualUp hx hown hl hsame howner hn0 hrm hstR (a := b) (cell := cellB) hcell (fun z h => by rw [h] at hobj; cases hobj) hselP hmethM habM hkP hkPi (g := g) hg (argsL := As) (rest := rest) hl2 hstack hdg
  exact ⟨mk, vm1, X1, X1.named hnamed, fun target h => hstep _ h⟩
end EN
