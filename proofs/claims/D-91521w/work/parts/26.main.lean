/-! the abstract machine and the real one: the theorem's end -/
section SNDM
variable {E : EV} {A : Nat → Prop} {ad0 : Pn → Nat} {Ls : Nat} {xs : Nat → Int32}
theorem own19 : cnm (mown 19) = "BelowWorth" := by decide +kernel
theorem snd_catch {p : Program} {l : Launch} {e : Env} {R : Room} {s : State} {m : MethodId} {args : Array Value} {below : List Frame} {meth : Method} {c : Code} {T : State} {locs : List Loc} {cells slots : Nat} {pc : Nat} {ls : Array Slot} {ad : Pn → Nat} {h : HS} {q : Pn}
    (X : Stand p l e R s m args below meth c T locs cells slots) (hM : Mx p s m args meth c 19) (hx : Hx c 19) (h32 : 32 ≤ pc) (h69 : pc < 69) (hW : Wd E A ad0 s T.heap locs ad h) (hq : okP h q) (hq1 : q.1 = 2097174) (st : List Value) :
    ∃ vm1, Stand p l e R s m args below meth c (T.setVm vm1) locs cells slots ∧ ∀ target, Steps p.tables e below ((T.setVm vm1).setTop (F0 m 72 ls [.ref (ad q)])) target → Steps p.tables e below ((T.setTop (F0 m pc ls st)).pushFrame (.throwing (ad q))) target := by
  obtain ⟨-, hb, hown, hts, -, -⟩ := hM
  have hci : (q.1, RX1, TX1, 8) ∈ cinfT := by rw [hq1]; exact cin_X1
  obtain ⟨cell, hcell, hobj, hcls⟩ := recv_at (K := q.1) (j := q.2) hW (hq.in (by rw [hq1]; decide)) hci
  have hcls : s.vm.findClass "BelowWorth$Fault" = some cell.cls := hcls
  obtain ⟨x, htab, hx1, hx2, hx3, hx4⟩ : ∃ x : ExceptionTableEntry, c.exceptionTable.toList = [x] ∧ x.startPc = 32 ∧ x.endPc = 69 ∧ x.handlerPc = 72 ∧ x.catchType = 36 := by
    unfold Hx at hx
    rw [if_pos rfl] at hx
    cases ht : c.exceptionTable.toList with
    | nil => rw [ht] at hx; cases hx
    | cons x t =>
      rw [ht, List.map_cons] at hx
      obtain ⟨h1, h2⟩ := List.cons.inj hx
      have h2 : t = [] := List.map_eq_nil_iff.mp h2
      simp only [Prod.mk.injEq] at h1
      exact ⟨x, by rw [h2], h1.1, h1.2.1, h1.2.2.1, h1.2.2.2⟩
  have hpl : e.platform.magicAccessors = ({} : Platform).magicAccessors := by rw [X.admits.platform]
  rw [own19] at hown
  obtain ⟨c1, hfc, hcl⟩ := Cond.classLink_spec hown (hts _ q153) e.platform hpl
  cases hcls.symm.trans hfc
  obtain ⟨hg1, hw1, -⟩ := State.classEntry (e := e) X.warmed hcl
  have hsz : (T.vm.noted m.cls 36 (.cls cell.cls)).classes.size ≤ T.vm.classes.size := by no_record
  generalize T.vm.noted m.cls 36 (.cls cell.cls) = vm1 at hg1 hw1 hsz
  refine ⟨vm1, X.noted hw1, fun target hrest => ?_⟩
  have e72 : F0 m 72 ls [.ref (ad q)] = { F0 m pc ls st with pc := 72, stack := [.ref (ad q)] } := rfl
  rw [e72] at hrest
  refine caught_cold (g := F0 m pc ls st) X.here (fun Q E0 d acts => ?_) hrest
  have evm : ((T.setTop (F0 m pc ls st)).pushFrame (.throwing (ad q))).vm = T.vm := Stand.throwing_vm T _ _
  have eh : ((T.setTop (F0 m pc ls st)).pushFrame (.throwing (ad q))).heap = T.heap := Stand.throwing_heap T _ _
  have hcov : covers x pc = true := by
    unfold covers
    rw [hx1, hx2, Bool.and_eq_true]
    exact ⟨decide_eq_true h32, decide_eq_true h69⟩
  have hk0 : ∃ k, vm1.classes[cell.cls]? = some k := by
    obtain ⟨-, hfc2, kC, hkC, -⟩ := (show ∃ tys, va_K (E.1, E.2.1) cl0 tys s from by obtain ⟨ws, tys, pos, cid, hK, -⟩ := hW; exact ⟨tys, hK⟩).choose_spec.1 _ _ (cl0_at hci)
    have hfc2 : s.vm.findClass "BelowWorth$Fault" = _ := hfc2
    have e9 := Option.some.inj (hcls.symm.trans hfc2)
    obtain ⟨k', hk', -⟩ := hw1.alike.2.2 _ _ hkC
    exact ⟨k', by rw [e9]; exact hk'⟩
  rw [W.findHandler_eq (meth := meth) (code := c) (by rw [evm]; exact X.method') X.code, htab, ← hx3]
  exact find_cold (f := F0 m pc ls st) hcov (by rw [hx4]; decide) (by rw [evm, hx4]; exact hg1) (by rw [evm]; exact hsz) (by rw [eh]; exact hcell) (fun k z => by rw [z] at hobj; cases hobj) hk0 hk0 (va_asg _ _)
set_option maxHeartbeats 2000000 in
theorem snd_main : ∀ n, SND E A ad0 Ls xs n := by
  intro n
  induction n with
  | zero =>
    intro d M pc L S h r he
    simp [exec] at he
  | succ n ih =>
    intro d M pc L S h r he p l e R s m args below meth c H locs cells slots ad ls hM hR hC hfr hlo hLn hs
    have hE : opqOK E := hC.2.2.2.2.2.2.2.2.2.2.2.1
    rw [exec] at he
    cases hi : ins M pc with
    | none => simp [hi] at he
    | some q0 =>
      obtain ⟨i, len⟩ := q0
      simp only [hi] at he
      obtain ⟨hd, hl⟩ := ins_dec hi
      cases hp : pureI i L S with
      | some q0 =>
        obtain ⟨L', S'⟩ := q0
        simp only [hp] at he
        obtain ⟨o1, o2, o3⟩ := pure_ok (h := h) hp hs.2.2.2.1 hs.2.2.2.2.1
        refine snd_pure hM.1 hM.2.1 hE hd hl hp hs.2.2.1 ?_
        intro ls' hL'
        exact ih d M (pc + len) L' S' h r he p l e R s m args below meth c H locs cells slots ad ls' hM hR hC hfr hlo (o3.trans hLn) ⟨hs.1, hs.2.1, hL', o1, o2, hs.2.2.2.2.2⟩
      | none =>
        simp only [hp] at he
        cases hj : jmpI i pc S with
        | some q0 =>
          obtain ⟨pc', S'⟩ := q0
          simp only [hj] at he
          refine snd_jmp hM.1 hM.2.1 hE hd hl hj ?_
          exact ih d M pc' L S' h r he p l e R s m args below meth c H locs cells slots ad ls hM hR hC hfr hlo hLn ⟨hs.1, hs.2.1, hs.2.2.1, hs.2.2.2.1, jmp_ok hj hs.2.2.2.2.1, hs.2.2.2.2.2⟩
        | none =>
          simp only [hj] at he
          cases hh : heapI M pc i S h with
          | some q0 =>
            obtain ⟨S', h'⟩ := q0
            simp only [hh] at he
            refine snd_heap hM hC hd hl hh hs (by omega) (by omega) hLn ?_
            intro H1 locs1 cells1 slots1 ad1 hs1 ha hcn
            exact W_co (fun t q => q.mono ha hcn) (ih d M (pc + len) L S' h' r he p l e R s m args below meth c H1 locs1 cells1 slots1 ad1 ls hM hR hC hfr hlo hLn hs1)
          | none =>
            simp only [hh] at he
            cases hc : cllI M i S with
            | none =>
              simp only [hc] at he
              exact w_end hM hR hE hd hl he hs
            | some q0 =>
              obtain ⟨M', as, S'⟩ := q0
              simp only [hc] at he
              cases d with
              | zero => simp at he
              | succ d' =>
                simp only at he
                by_cases hsp : (spread as).length ≤ mloc M' ∧ argOK as = true
                · simp only [hsp, and_self, if_true] at he
                  cases hz : exec n d' M' 0 (entL M' as) [] h with
                  | none => simp [hz] at he
                  | some z =>
                    refine snd_call ih hM hC hfr hlo hLn hd hl hc hsp hz hs ?_ ?_
                    · intro vs h' ez H1 locs1 cells1 slots1 ad1 hs1 ha hcn
                      subst ez
                      simp only [hz] at he
                      exact W_co (fun t q => q.mono ha hcn) (ih (d' + 1) M (pc + len) L (vs ++ S') h' r he p l e R s m args below meth c H1 locs1 cells1 slots1 ad1 ls hM hR hC hfr hlo hLn hs1)
                    · intro q h' ez T1 locs1 cells1 slots1 ad1 st X1 hs1 ha hcn hq1
                      subst ez
                      simp only [hz] at he
                      cases hh2 : hdl M pc with
                      | none =>
                        simp only [hh2] at he
                        cases he
                        have hout : ∀ x ∈ c.exceptionTable.toList, covers x pc = false := hout_of hR.2.2.1 hh2
                        obtain ⟨st1, hrun, hend, hWm, hsb⟩ := X1.leaveThrown (ad1 q) (g := F0 m pc ls st) rfl rfl rfl hout hR.2.1
                        refine ⟨_, st1, .threw (ad1 q), locs1, cells1, slots1, ad1, hrun, hend, hWm, hsb, ?_, hs1.2.1, ha, hcn, hs1.2.2.2.2.2, hs1.2.2.2.2.1.head, hq1, rfl⟩
                        exact hs1.1
                      | some t =>
                        simp only [hh2] at he
                        unfold hdl at hh2
                        split at hh2
                        · rename_i h19
                          cases hh2
                          obtain ⟨rfl, g1, g2⟩ := h19
                          obtain ⟨vm1, X2, hst⟩ := snd_catch (ls := ls) X1 hM hR.2.2.1 g1 g2 hs1.1 hs1.2.2.2.2.1.head hq1 st
                          obtain ⟨t2, a1, b1⟩ := ih (d' + 1) 19 72 L [vR q] h' r he p l e R s m args below meth c T1.heap locs1 cells1 slots1 ad1 ls hM hR hC hfr hlo hLn hs1 (T1.setVm vm1) rfl X2
                          have e1 : cv E ad1 (vR q) = .ref (ad1 q) := ref_at (by rw [hq1]; decide)
                          rw [List.map_cons, e1] at a1
                          exact ⟨t2, hst t2 a1, b1.mono ha hcn⟩
                        · cases hh2
                · simp only [hsp, if_false] at he
                  cases he
end SNDM
