/-! the abstract machine and the real one: a whole run -/
section CATCH
theorem find_cold {e : Env} {s : State} {f : JFrame} {a : Addr} {Q : Handler → Pre} {E : CtlPost} {d : Bool} {acts : List Action} {x : ExceptionTableEntry} {c : ClassId} {cell : Cell} {vm' : Vm} (hx : covers x f.pc = true) (h0 : x.catchType ≠ 0)
    (hg : (Jvm.resolveClass f.method.cls x.catchType).Gives e.toSetting s.vm (.ok c) vm') (hsz : vm'.classes.size ≤ s.vm.classes.size) (hcell : s.heap[a]? = some cell) (hobj : ∀ k, cell.vm ≠ .statics k) (hk : ∃ k, vm'.classes[cell.cls]? = some k) (hc : ∃ k, vm'.classes[c]? = some k) (hfit : vm'.assignable cell.cls c = true) :
    wp (findHandler.go f a [x]) Q E e d acts s ↔ Q (.found x.handlerPc) d acts (s.setVm vm') := by
  obtain ⟨ha, ht⟩ := hg.op (op := VmOp.resolveClass f.method.cls x.catchType) rfl
  simp only [covers] at hx
  simp [findHandler.go, hx, h0, ha, ht, hsz, hcell, hobj, hk, hc, hfit, VmOp.dirties, VmOp.acts]
theorem catch_step {e : Env} {s : State} {a : Addr} {f : JFrame} {r : List Frame} {pc : Nat} {vm' : Vm} (hfind : ∀ (Q : Handler → Pre) (E : CtlPost) (d : Bool) (acts : List Action), wp (findHandler f a) Q E e d acts s ↔ Q (.found pc) d acts (s.setVm vm')) :
    (stepThrowing e s a (.java f :: r)).Is ((s.setVm vm').setFrames (.java { f with pc := pc, stack := [.ref a] } :: r)) [] := by
  simp only [stepThrowing, searchFrame, vmDo]
  generalize hr : Sem.go _ e false [] s = res
  obtain ⟨as, rfl, ha⟩ := Sem.eq_ok_of hr (a := Handler.found pc) (s' := s.setVm vm') (acts' := []) (by simp [hfind _ _ _ _])
  exact ⟨rfl, ha⟩
theorem caught_cold {tb : Tables} {e : Env} {s target : State} {g : JFrame} {c : Code} {below : List Frame} {a : Addr} (h : At s g.method c below) {pc : Nat} {vm' : Vm}
    (hfind : ∀ (Q : Handler → Pre) (E : CtlPost) (d : Bool) (acts : List Action), wp (findHandler g a) Q E e d acts ((s.setTop g).pushFrame (.throwing a)) ↔ Q (.found pc) d acts (((s.setTop g).pushFrame (.throwing a)).setVm vm'))
    (hrest : Steps tb e below ((s.setVm vm').setTop { g with pc := pc, stack := [.ref a] }) target) : Steps tb e below ((s.setTop g).pushFrame (.throwing a)) target := by
  obtain ⟨hgo, hw⟩ := h.throwing a
  refine Steps.head hgo hw ?_
  rw [stepThread_throwing (frames_entered h.top _), (catch_step (s := (s.setTop g).pushFrame (.throwing a)) hfind).1]
  obtain ⟨g₀, hg⟩ := Option.isSome_iff_exists.mp h.top
  obtain ⟨r, hr⟩ := State.topJava?_eq_some.mp hg
  have hr' : (s.setVm vm').frames = .java g₀ :: r := hr
  rw [State.setTop_of_frames _ hr'] at hrest
  have e1 : (((s.setTop g).pushFrame (.throwing a)).setVm vm').setFrames (.java { g with pc := pc, stack := [.ref a] } :: s.frames.tail) = (s.setVm vm').setFrames (.java { g with pc := pc, stack := [.ref a] } :: r) := by
    show ((((s.setTop g).pushFrame (.throwing a)).setFrames (.java { g with pc := pc, stack := [.ref a] } :: s.frames.tail))).setVm vm' = ((s.setFrames (.java { g with pc := pc, stack := [.ref a] } :: r))).setVm vm'
    rw [State.pushFrame, State.setFrames_setFrames, State.setTop_of_frames _ hr, State.setFrames_setFrames, hr]
    rfl
  rw [e1]
  exact hrest
end CATCH
theorem q19 : plainFor (mY 19) = true ∧ mloc 19 ≤ 17 ∧ cnm (mown 19) = (mY 19).cls ∧ RetP 19 := ⟨by decide +kernel, by decide +kernel, by decide +kernel, Or.inr (Or.inl ⟨by decide +kernel, by decide +kernel⟩)⟩
def CalP (M : Nat) : Prop := MthP M ∨ (M = 19 ∧ Cond.codeWith (mY 19) (mC 19) (mloc 19) (mR 19) [(32, 69, 72, 36)] ∈ lw_all ∧ Cond.initialized (mY 19).cls ∈ lw_all)
theorem cal_facts {M : Nat} {U : State} {mk : MethodId} (hP : CalP M) (hall : ∀ w ∈ lw_all, ∀ a', w.before a' U = true) (hn : U.methodNamed? (mY M) = some mk) :
    ∃ methk ck, U.vm.method? mk = some methk ∧ methk.code = some ck ∧ Rx methk ck M ∧ ck.code = mC M ∧ ck.maxLocals = mloc M ∧ U.plainMethod mk ∧ U.vm.findClass (cnm (mown M)) = some mk.cls ∧ methk.name = (mY M).name ∧ mloc M ≤ 17 := by
  rcases hP with ⟨h1, h2, h3, ⟨h4, h5, h6⟩, h7, h8⟩ | ⟨rfl, h1, h2⟩
  · obtain ⟨methk, ck, a1, a2, a3, a4, a5, a6, a7, a8⟩ := Cond.code_spec hn (hall _ h1 #[])
    have e0 : ck.exceptionTable.toList = [] := by
      have h0 : ck.exceptionTable.size = 0 := by simpa [Array.isEmpty] using a7
      exact List.eq_nil_of_length_eq_zero (by simpa using h0)
    exact ⟨methk, ck, a1, a2, ⟨a5, a6, by unfold Hx; rw [e0, if_neg h7]; rfl, h8⟩, a3, a4, State.plainMethod.of_named h4 hn a1, by rw [h6]; exact findClass_of_methodNamed hn, (name_of_methodNamed hn a1).1, h5⟩
  · obtain ⟨m', methk, ck, a0, a1, a2, a3, a4, a5, a6, a7, a8⟩ := Cond.codeWith_spec (hall _ h1 #[])
    cases hn.symm.trans a0
    exact ⟨methk, ck, a1, a2, ⟨a6, a7, by unfold Hx; rw [a5, if_pos rfl], q19.2.2.2⟩, a3, a4, State.plainMethod.of_named q19.1 hn a1, by rw [q19.2.2.1]; exact findClass_of_methodNamed hn, (name_of_methodNamed hn a1).1, q19.2.1⟩
section MAIN
variable {E : EV} {A : Nat → Prop} {ad0 : Pn → Nat} {Ls : Nat} {xs : Nat → Int32}
section ANY
variable {p : Program} {l : Launch} {e : Env} {R : Room} {s : State} {m : MethodId} {args : Array Value} {below : List Frame} {meth : Method} {c : Code} {H : Heap} {locs : List Loc} {cells slots : Nat}
variable {pc : Nat} {ls : Array Slot} {ad : Pn → Nat} {h : HS} {M M' len : Nat} {i : Instr} {L S S' as : List V}
theorem ab_cls (a : Nat) : (AB a).cls ≠ "java/lang/invoke/MethodHandle" ∧ (AB a).cls ≠ "java/lang/invoke/VarHandle" := by
  unfold AB
  split <;> decide
theorem stack_split {n : Nat} (S : List V) : S.map (cv E ad) = (((S.take n).reverse).map (cv E ad)).reverse ++ (S.drop n).map (cv E ad) := by
  rw [List.map_reverse, List.reverse_reverse, ← List.map_append, List.take_append_drop]
theorem take_len {n : Nat} {S : List V} (h : n ≤ S.length) : (((S.take n).reverse).map (cv E ad)).length = n := by
  simp; omega
theorem drop_len {n : Nat} {S S' : List V} {v : V} (h : S.drop n = v :: S') : n ≤ S.length := by
  rcases Nat.lt_or_ge S.length n with z | z
  · rw [List.drop_eq_nil_of_le (by omega)] at h; cases h
  · exact z
set_option maxHeartbeats 1000000 in
theorem ent_any (hM : Mx p s m args meth c M) (hC : Cx E A ad0 Ls xs s) (hd : decode (mC M) pc = .ok (i, len)) (hl : lenOK i len = true) (hc : cllI M i S = some (M', as, S')) (hs : St E A ad0 Ls xs R s H locs cells slots ad L S h ls) :
    len = 3 ∧ CalP M' ∧ okS h as ∧ okS h S' ∧ S'.length ≤ 10 ∧ ∀ T, T.heap = H → Stand p l e R s m args below meth c T locs cells slots → Ent p l e R s m args below meth c T locs cells slots (F0 m pc ls (S.map (cv E ad))) (S'.map (cv E ad)) (mY M') (as.map (cv E ad)).toArray := by
  obtain ⟨hx, hb, hown, hts, hnm, hml⟩ := hM
  obtain ⟨c1, c2, c3, c4, c5, c6, -⟩ := hC
  obtain ⟨hW, -, -, -, okSt, -, -⟩ := hs
  have okT : ∀ n, okS h (S.take n).reverse := fun n v hv => okSt v (List.mem_of_mem_take (List.mem_reverse.mp hv))
  have okD : ∀ n, okS h (S.drop n) := fun n v hv => okSt v (List.mem_of_mem_drop hv)
  have link : ∀ {idx : Nat} {y : MethodName}, (Cond.methodLink (cnm (mown M)) idx y ∈ lw_all ∨ ∃ host, Cond.methodLinkNest (cnm (mown M)) idx y host ∈ lw_tbl) → (Cond.methodLink (cnm (mown M)) idx y).before args s = true ∨ ∃ host, (Cond.methodLinkNest (cnm (mown M)) idx y host).before args s = true := by
    intro idx y z
    rcases z with z | ⟨host, z⟩
    · exact Or.inl (hts _ z)
    · exact Or.inr ⟨host, (c2 _ _ _ _ z).use rfl⟩
  cases i with
  | invokestatic idx =>
    obtain rfl : 3 = len := of_decide_eq_true hl
    simp only [cllI] at hc
    split at hc
    · rename_i M1 n rk hv
      split at hc
      · rename_i hn
        cases hc
        have hP : InvP (mown M) idx M' n 0 rk := inv_ok _ (mem_of_lookup hv)
        rcases hP with ⟨-, h1, h2, h3, h4⟩ | ⟨z, -⟩ | ⟨z, -⟩ | ⟨z, -⟩ | ⟨z, -⟩ | ⟨z, -⟩
        · refine ⟨rfl, Or.inl h3, okT n, okD n, hn.2, fun T hT X => ?_⟩
          exact ent_S X hx hown (link h1) (hts _ h2) (hts _ h3.2.1) (hts _ h3.1) h3.2.2.1 (g := F0 m pc ls (S.map (cv E ad))) rfl (take_len hn.1) h4 (stack_split S) (by rw [hb]; exact hd)
        all_goals omega
      · cases hc
    · cases hc
  | invokespecial idx =>
    obtain rfl : 3 = len := of_decide_eq_true hl
    simp only [cllI] at hc
    split at hc
    · rename_i M1 n rk hv
      split at hc
      · rename_i q S0 hdr
        split at hc
        · rename_i hn
          cases hc
          have hP : InvP (mown M) idx M' n 2 rk := inv_ok _ (mem_of_lookup hv)
          have hle := drop_len hdr
          have hq : okS h (vR q :: S') := by rw [← hdr]; exact okD n
          rcases hP with ⟨z, -⟩ | ⟨z, -⟩ | ⟨-, h1, h2, h3, h5, h4⟩ | ⟨z, -⟩ | ⟨z, -⟩ | ⟨z, -⟩
          · omega
          · omega
          · refine ⟨rfl, Or.inl h3, okS.cons hq.head (okT n), hq.tail, hn.2, fun T hT X => ?_⟩
            have e1 : cv E ad (vR q) = .ref (ad q) := ref_at hn.1
            have hst : S.map (cv E ad) = (((S.take n).reverse).map (cv E ad)).reverse ++ .ref (ad q) :: S'.map (cv E ad) := by
              rw [stack_split (n := n) S, hdr, List.map_cons, e1]
            have hcode : (Cond.code (mY M') (mC M') (mloc M') none).before args s = true := by
              have := hts _ h3.1
              rw [h5.2] at this
              exact this
            have := ent_I2 X hx hown h5.1 (link h1) (hts _ h2) hcode h3.2.2.1 (g := F0 m pc ls (S.map (cv E ad))) rfl (take_len hle) h4 hst (by rw [hb]; exact hd)
            rw [List.map_cons, e1]
            exact this
          · omega
          · omega
          · omega
        · cases hc
      · cases hc
    · cases hc
  | invokevirtual idx =>
    obtain rfl : 3 = len := of_decide_eq_true hl
    simp only [cllI] at hc
    split at hc
    · rename_i M1 n rk hv
      split at hc
      · rename_i q S0 hdr
        split at hc
        · rename_i hn
          cases hc
          have hP : InvP (mown M) idx M' n 1 rk := inv_ok _ (mem_of_lookup hv)
          have hle := drop_len hdr
          have hq : okS h (vR q :: S') := by rw [← hdr]; exact okD n
          have hq0 : okP h q := hq.head
          rcases hP with ⟨z, -⟩ | ⟨-, h1, h2, C, h6, h7, h3, h4⟩ | ⟨z, -⟩ | ⟨z, -⟩ | ⟨z, -⟩ | ⟨z, -⟩
          · omega
          · refine ⟨rfl, h3, okS.cons hq.head (okT n), hq.tail, hn.2, fun T hT X => ?_⟩
            have e1 : cv E ad (vR q) = .ref (ad q) := by
              rcases h7 with ⟨T2, N, z⟩ | ⟨z, -⟩
              · have := (cinf_ok _ z).2.2.2.2.2.2.1
                exact ref_at (by rw [hn.1]; exact this)
              · exact cvP_at (by rw [hn.1, z]; decide) (by rw [hn.1, z]; decide)
            have hst : S.map (cv E ad) = (((S.take n).reverse).map (cv E ad)).reverse ++ .ref (ad q) :: S'.map (cv E ad) := by
              rw [stack_split (n := n) S, hdr, List.map_cons, e1]
            have hr : ∃ cell : Cell, T.heap[ad q]? = some cell ∧ cell.vm.isStatics = false ∧ s.vm.findClass C = some cell.cls := by
              rw [hT]
              rcases h7 with ⟨T2, N, z⟩ | ⟨z, rfl⟩
              · have hge := (cinf_ok _ z).2.2.2.2.2.2.1
                have hin : inK h (rk, q.2) := by rw [← hn.1]; exact hq0.in (by rw [hn.1]; exact hge)
                have := recv_at hW hin z
                rw [← hn.1] at this
                exact this
              · have h8 : q.1 = 8 := hn.1.trans z
                rw [hW.low q (by omega), show q = (8, q.2) from by rw [← h8]]
                exact va_Orecv (c6 q.2 (okP8 hq0 h8)).2.2.2.1 hW.S
            have hcode : (∃ mk methM, s.methodNamed? (mY M') = some mk ∧ s.vm.method? mk = some methM ∧ parseMethodDescriptor (mY M').desc = some methM.sig) ∧ (mY M').cls ≠ "java/lang/invoke/MethodHandle" ∧ (mY M').cls ≠ "java/lang/invoke/VarHandle" := by
              rcases h3 with z | ⟨rfl, z, -⟩
              · obtain ⟨mk, hnamed⟩ := Cond.code_named (hts _ z.1)
                obtain ⟨methM, cM, a1, -, -, -, -, -, -, a8⟩ := Cond.code_spec hnamed (hts _ z.1)
                exact ⟨⟨mk, methM, hnamed, a1, a8⟩, z.2.2.1⟩
              · obtain ⟨m', methk, ck, a0, a1, a2, a3, a4, a5, a6, a7, a8⟩ := Cond.codeWith_spec (hts _ z)
                exact ⟨⟨m', methk, a0, a1, a8⟩, by decide +kernel⟩
            have := ent_V X hx hown (link h1) (hts _ h2) (hts _ h6) hcode.1 hcode.2 hr (g := F0 m pc ls (S.map (cv E ad))) rfl (take_len hle) h4 hst (by rw [hb]; exact hd)
            rw [List.map_cons, e1]
            exact this
          · omega
          · omega
          · omega
          · omega
        · cases hc
      · cases hc
    · rename_i a n rk hv
      split at hc
      · rename_i q S0 hdr
        split at hc
        · rename_i M1 hab
          split at hc
          · rename_i hn
            cases hc
            have hP : InvP (mown M) idx a n 3 rk := inv_ok _ (mem_of_lookup hv)
            have hA : AbsP a q.1 M' := abs_ok _ (mem_of_lookup hab)
            obtain ⟨C, T2, N, hci, b1, b2, b3, b4, b5⟩ := hA
            have hle := drop_len hdr
            have hq : okS h (vR q :: S') := by rw [← hdr]; exact okD n
            have hq0 : okP h q := hq.head
            have hge : 1048576 ≤ q.1 := (cinf_ok _ hci).2.2.2.2.2.2.1
            rcases hP with ⟨z, -⟩ | ⟨z, -⟩ | ⟨z, -⟩ | ⟨-, h1, h2, h4⟩ | ⟨z, -⟩ | ⟨z, -⟩
            · omega
            · omega
            · omega
            · refine ⟨rfl, Or.inl b5, okS.cons hq.head (okT n), hq.tail, hn, fun T hT X => ?_⟩
              have e1 : cv E ad (vR q) = .ref (ad q) := ref_at hge
              have hst : S.map (cv E ad) = (((S.take n).reverse).map (cv E ad)).reverse ++ .ref (ad q) :: S'.map (cv E ad) := by
                rw [stack_split (n := n) S, hdr, List.map_cons, e1]
              have hr : ∃ cell : Cell, T.heap[ad q]? = some cell ∧ cell.vm.isStatics = false ∧ s.vm.findClass C = some cell.cls := by
                rw [hT]
                exact recv_at (K := q.1) (j := q.2) hW (hq0.in hge) hci
              have := ent_U (owner := (AB a).cls) X hx hown (hts _ h1) (hts _ b3) (c4 _ b4) (ab_cls a) (hts _ b1) (hts _ b2) hr (g := F0 m pc ls (S.map (cv E ad))) rfl (take_len hle) h4 hst (by rw [hb]; exact hd)
              rw [List.map_cons, e1]
              exact this
            · omega
            · omega
          · cases hc
        · cases hc
      · cases hc
    · cases hc
  | _ => cases (show (none : Option (Nat × List V × List V)) = some (M', as, S') from hc)
end ANY
end MAIN
