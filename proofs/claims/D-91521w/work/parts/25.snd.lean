/-! the abstract machine and the real one: the theorem -/
section SNDS
variable {E : EV} {A : Nat → Prop} {ad0 : Pn → Nat} {Ls : Nat} {xs : Nat → Int32}
def SND (E : EV) (A : Nat → Prop) (ad0 : Pn → Nat) (Ls : Nat) (xs : Nat → Int32) (n : Nat) : Prop := ∀ (d M pc : Nat) (L S : List V) (h : HS) (r : (List V ⊕ Pn) × HS), exec n d M pc L S h = some r →
  ∀ (p : Program) (l : Launch) (e : Env) (R : Room) (s : State) (m : MethodId) (args : Array Value) (below : List Frame) (meth : Method) (c : Code) (H : Heap) (locs : List Loc) (cells slots : Nat) (ad : Pn → Nat) (ls : Array Slot),
  Mx p s m args meth c M → Rx meth c M → Cx E A ad0 Ls xs s → d + 1 ≤ R.frames → 48 * d + 48 ≤ R.locals → L.length = mloc M → St E A ad0 Ls xs R s H locs cells slots ad L S h ls →
  W p l e R s m args below meth c H locs cells slots (QE E A ad0 Ls xs R s below ad h r) (F0 m pc ls (S.map (cv E ad)))
section ONE
variable {p : Program} {l : Launch} {e : Env} {R : Room} {s : State} {m : MethodId} {args : Array Value} {below : List Frame} {meth : Method} {c : Code} {H : Heap} {locs : List Loc} {cells slots : Nat} {Q : State → Prop}
variable {pc : Nat} {ls : Array Slot} {ad : Pn → Nat} {h : HS} {M M' len n d' : Nat} {i : Instr} {L S S' as : List V} {z : (List V ⊕ Pn) × HS}
set_option maxHeartbeats 2000000 in
theorem snd_call (ih : SND E A ad0 Ls xs n) (hM : Mx p s m args meth c M) (hC : Cx E A ad0 Ls xs s) (hfr : d' + 1 + 1 ≤ R.frames) (hlo : 48 * (d' + 1) + 48 ≤ R.locals) (hLn : L.length = mloc M) (hd : decode (mC M) pc = .ok (i, len)) (hl : lenOK i len = true) (hc : cllI M i S = some (M', as, S'))
    (hsp : (spread as).length ≤ mloc M' ∧ argOK as = true) (hz : exec n d' M' 0 (entL M' as) [] h = some z) (hs : St E A ad0 Ls xs R s H locs cells slots ad L S h ls)
    (kR : ∀ vs h', z = (.inl vs, h') → ∀ H1 locs1 cells1 slots1 ad1, St E A ad0 Ls xs R s H1 locs1 cells1 slots1 ad1 L (vs ++ S') h' ls → (∀ x, okP h x → ad1 x = ad x) → (∀ K, cn h K ≤ cn h' K) → W p l e R s m args below meth c H1 locs1 cells1 slots1 Q (F0 m (pc + len) ls ((vs ++ S').map (cv E ad1))))
    (kT : ∀ q h', z = (.inr q, h') → ∀ (T1 : State) locs1 cells1 slots1 ad1 st, Stand p l e R s m args below meth c T1 locs1 cells1 slots1 → St E A ad0 Ls xs R s T1.heap locs1 cells1 slots1 ad1 L [vR q] h' ls → (∀ x, okP h x → ad1 x = ad x) → (∀ K, cn h K ≤ cn h' K) → q.1 = 2097174 →
      ∃ t, Steps p.tables e below ((T1.setTop (F0 m pc ls st)).pushFrame (.throwing (ad1 q))) t ∧ Q t) : W p l e R s m args below meth c H locs cells slots Q (F0 m pc ls (S.map (cv E ad))) := by
  obtain ⟨hlen, hP, okA, okS', hS10, ent⟩ := ent_any (below := below) (p := p) (l := l) (e := e) hM hC hd hl hc hs
  subst hlen
  obtain ⟨hx, hb, hown, hts, hnm, hml⟩ := hM
  obtain ⟨hW, hB, hLS, okL, okSt, sc1, sc2⟩ := hs
  have hE : opqOK E := hC.2.2.2.2.2.2.2.2.2.2.2.1
  intro T hT X
  obtain ⟨mk, vm1, X1, hn, hstep⟩ := ent T hT X
  have hW1 : s.WarmedH (T.setVm vm1).vm := X1.warmed
  have hall : ∀ w ∈ lw_all, ∀ a', w.before a' (T.setVm vm1) = true := fun w hw a' => word_at hW1 (lw_self w hw).2 (hts w hw)
  obtain ⟨methk, ck, b1, b2, b3, b4, b5, b6, b7, b8, b9⟩ := cal_facts hP hall hn
  have cs := cat_sum (E := E) (ad := ad) S'
  have hdg : decode c.code pc = .ok (i, 3) := by rw [hb]; exact hd
  have hsize : ls.size = c.maxLocals := by rw [hLS.1, hLn, hml]
  obtain ⟨Y0, hin⟩ := X1.into (g := F0 m pc ls (S'.map (cv E ad))) rfl hsize hdg (as.map (cv E ad)).toArray (R' := ⟨d' + 1, R.cells - cells, R.slots - slots, 48 * d' + 48⟩) b1 b2 b3.2.1 b6 (by show d' + 1 + 1 ≤ R.frames; exact hfr) (by show 2 * 0 + ((S'.map (cv E ad)).map fun v => v.category).sum + (ck.maxLocals + 11) + (48 * d' + 48) ≤ R.locals; rw [b5]; omega) (by show cells + (R.cells - cells) ≤ R.cells; have := hB.1; omega) (by show slots + (R.slots - slots) ≤ R.slots; have := hB.2; omega)
  obtain ⟨ls0, hef, hLS0⟩ := ent_LSx (ad := ad) hE (M := M') mk hsp.2 hsp.1
  rw [b5, hef] at hin Y0
  generalize hU : (T.setVm vm1).calling (F0 m pc ls (S'.map (cv E ad))) mk (as.map (cv E ad)).toArray = U at Y0
  have hUvm : U.vm = vm1 := by rw [← hU]; rfl
  have hUheap : U.heap = H := by rw [← hU]; exact hT
  have hWU : s.WarmedH U.vm := by rw [hUvm]; exact hW1
  have hSv := hW.S
  have hCU : Cx E A ad0 Ls xs U := hC.moved hWU (by rw [hUheap]; exact hSv.1) (by rw [hUheap]; exact hSv.2.1)
  have hMU : Mx p U mk (as.map (cv E ad)).toArray methk ck M' := ⟨hx, b4, by rw [hUvm]; exact b7, fun w hw => word_at hWU (lw_self w hw).2 (hts w hw), fun _ _ => b8, b5⟩
  have hSU : St E A ad0 Ls xs ⟨d' + 1, R.cells - cells, R.slots - slots, 48 * d' + 48⟩ U H [] 0 0 ad (entL M' as) [] h ls0 := ⟨hW.into hWU.alike hUheap, ⟨by show 0 + NCL ≤ R.cells - cells + nc h ∧ nc h ≤ NCL; have := hB.1; omega, by show 0 + NSL ≤ R.slots - slots + ns h ∧ ns h ≤ NSL; have := hB.2; omega⟩, hLS0, ent_ok okA, fun v hv => absurd hv List.not_mem_nil, sc1, sc2⟩
  have hTh : (((T.setVm vm1).setTop (F0 m pc ls (S'.map (cv E ad)))).pushFrame (.java (F0 mk 0 ls0 []))).heap = H := by
    simp [State.pushFrame, State.setFrames, State.setTop, State.modifyTopJava]
    exact hT
  have wC := ih d' M' 0 (entL M' as) [] h z hz p l e ⟨d' + 1, R.cells - cells, R.slots - slots, 48 * d' + 48⟩ U mk (as.map (cv E ad)).toArray (.java (F0 m pc ls (S'.map (cv E ad))) :: below) methk ck H [] 0 0 ad ls0 hMU b3 hCU (Nat.le_refl _) (Nat.le_refl _) (entL_len hsp.1) hSU
  obtain ⟨t, st, o, Lc, k, nn, ad', hrun, hend, hWt, hsb, hWd, hBd, ha, hcn, hsc, hmatch⟩ := wC _ hTh Y0
  rw [← hU] at hWt hsb
  have hBd2 : ∀ h', Bd ⟨d' + 1, R.cells - cells, R.slots - slots, 48 * d' + 48⟩ k nn h' → Bd R (cells + k) (slots + nn) h' := by
    intro h' hb0
    obtain ⟨x1, x2⟩ := hb0
    have x1 : k + NCL ≤ R.cells - cells + nc h' ∧ nc h' ≤ NCL := x1
    have x2 : nn + NSL ≤ R.slots - slots + ns h' ∧ ns h' ≤ NSL := x2
    have y1 := hB.1
    have y2 := hB.2
    refine ⟨?_, ?_⟩
    · omega
    · omega
  obtain ⟨z1, h'⟩ := z
  cases z1 with
  | inl vs =>
    obtain ⟨okv, v, rfl, hv⟩ := hmatch
    obtain ⟨T2, X2, hW2, hsb2, ht⟩ := X1.outOf (g := F0 m pc ls (S'.map (cv E ad))) rfl hdg hend hWt hsb
    have hT2 : T2.heap = t.heap := by rw [ht, State.heap_setTop]
    have hWs : Wd E A ad0 s t.heap (locs ++ Lc) ad' h' := hWd.out hWU.alike hUheap hSv
    have okVS : okS h' (vs ++ S') := fun w hw => by
      rcases List.mem_append.mp hw with q | q
      · exact okv w q
      · exact (okS' w q).mono hcn
    obtain ⟨t2, a1, b1⟩ := kR vs h' rfl t.heap (locs ++ Lc) (cells + k) (slots + nn) ad' ⟨hWs, hBd2 h' hBd, hLS.new okL ha, okL.mono hcn, okVS, hsc.1, hsc.2⟩ ha hcn T2 hT2 X2
    refine ⟨t2, hstep t2 (fun acts => ?_), b1⟩
    have e1 : F0 m (pc + 3) ls ((vs ++ S').map (cv E ad')) = { F0 m pc ls (S'.map (cv E ad)) with pc := pc + 3, stack := v.toList ++ S'.map (cv E ad) } := by
      rw [List.map_append, ← hv, map_adn okS' ha]
    rw [e1] at a1
    have := hin acts
    rw [show ((T.setVm vm1).setTop { F0 m pc ls (S.map (cv E ad)) with stack := S'.map (cv E ad) }) = ((T.setVm vm1).setTop (F0 m pc ls (S'.map (cv E ad)))) from rfl, this]
    refine (Steps.weaken (mid := [.java (F0 m pc ls (S'.map (cv E ad)))]) st).trans ?_
    rw [ht]
    exact a1
  | inr q =>
    obtain ⟨okq, hq1, rfl⟩ := hmatch
    obtain ⟨T2, X2, hW2, hsb2, ht⟩ := X1.outOfThrown (g := F0 m pc ls (S'.map (cv E ad))) rfl hend hWt hsb
    have hT2 : T2.heap = t.heap := by rw [ht]; simp [State.pushFrame, State.setFrames, State.setTop, State.modifyTopJava]
    have hWs : Wd E A ad0 s t.heap (locs ++ Lc) ad' h' := hWd.out hWU.alike hUheap hSv
    rw [← hT2] at hWs
    obtain ⟨t2, a1, b1⟩ := kT q h' rfl T2 (locs ++ Lc) (cells + k) (slots + nn) ad' (S'.map (cv E ad)) X2 ⟨hWs, hBd2 h' hBd, hLS.new okL ha, okL.mono hcn, okS.cons okq (fun w hw => absurd hw List.not_mem_nil), hsc.1, hsc.2⟩ ha hcn hq1
    refine ⟨t2, hstep t2 (fun acts => ?_), b1⟩
    have := hin acts
    rw [show ((T.setVm vm1).setTop { F0 m pc ls (S.map (cv E ad)) with stack := S'.map (cv E ad) }) = ((T.setVm vm1).setTop (F0 m pc ls (S'.map (cv E ad)))) from rfl, this]
    refine (Steps.weaken (mid := [.java (F0 m pc ls (S'.map (cv E ad)))]) st).trans ?_
    rw [ht]
    exact a1
end ONE
end SNDS
