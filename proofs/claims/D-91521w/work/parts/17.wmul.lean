/-! the abstract machine and the real one: arrays of arrays, their row -/
def OutC (U : State) (ty : FieldType) : Prop := ∃ cR cA kA, U.vm.findClass ("[" ++ ty.toString) = some cR ∧ U.vm.classes[cA]? = some kA ∧ kA.kind = .array cR (.array ty) ∧ U.vm.findClass ("[" ++ (FieldType.array ty).toString) = some cA
def RowC (U : State) (ty : FieldType) : Prop := ∃ cR, U.vm.findClass ("[" ++ ty.toString) = some cR ∧ (∃ kR cc, U.vm.classes[cR]? = some kR ∧ kR.kind = .array cc ty) ∧ va_RA U cR ty
def MulC (U : State) : Prop := ∀ ty ∈ mulTys, OutC U ty ∧ RowC U ty
theorem MulC.moved {u U : State} (hvm : u.vm.Alike U.vm) (h : MulC u) : MulC U := by
  intro ty ht
  obtain ⟨⟨cR, cA, kA, h1, h2, h3, h4⟩, cR', g1, ⟨kR, cc, g2, g3⟩, g4⟩ := h ty ht
  obtain ⟨k', hk', he⟩ := hvm.2.2 _ _ h2
  obtain ⟨k2, hk2, he2⟩ := hvm.2.2 _ _ g2
  exact ⟨⟨cR, cA, k', by rw [hvm.findClass]; exact h1, hk', by rw [he]; exact h3, by rw [hvm.findClass]; exact h4⟩, cR', by rw [hvm.findClass]; exact g1, ⟨k2, cc, hk2, by rw [he2]; exact g3⟩, g4.moved hvm⟩
theorem mul_bytes : ∀ ty ∈ mulTys, componentBytes ty ≤ 8 ∧ fits ty (defaultValue ty) = true ∧ (defaultValue ty).isDefault = true := by decide +kernel
section WM
variable {p : Program} {l : Launch} {e : Env} {R : Room} {s : State} {m : MethodId} {args : Array Value} {below : List Frame} {meth : Method} {c : Code} {H : Heap} {locs : List Loc} {cells slots : Nat} {Q : State → Prop}
variable {cc : ByteArray} {pc : Nat} {ls : Array Slot} {rest : List Value}
set_option maxHeartbeats 2000000 in
theorem w_multi0 (hx : p.tables.exec = Jvm.exec) (hb : c.code = cc) {own : String} {idx : Nat} {ty : FieldType} (hown : s.vm.findClass own = some m.cls) (hlink : (Cond.classLink own idx ("[" ++ (FieldType.array ty).toString)).before args s = true) (hM : OutC s ty ∧ RowC s ty) (hty : ty ∈ mulTys)
    {n k : Int32} {N M : Nat} (hn : ¬ n < 0) (hk : ¬ k < 0) (hN : n.toNatClampNeg = N) (hM0 : k.toNatClampNeg = M) (hN1 : N < 65536) (hM1 : M < 65536) (hcells : cells + (1 + N) ≤ R.cells) (hslots : slots + (N + N * M) ≤ R.slots) (hdg : decode cc pc = .ok (.multianewarray idx 2, 4))
    (kk : ∀ (H1 : Heap) (cA cR : ClassId), H1.size = H.size + 1 + N → H1[H.size]? = some (mtop cA N H.size N) → (∀ a, a < H.size → H1[a]? = H[a]?) → (∀ j, j < N → H1[H.size + 1 + j]? = some (mrow cR M (defaultValue ty))) →
      (ArrOfT s cA (.array ty) ∧ va_RA s cA (.array ty)) → (ArrOfT s cR ty ∧ va_RA s cR ty) → W p l e R s m args below meth c H1 (locs ++ (List.range N).map fun j => ⟨H.size, j⟩) (cells + 1 + N) (slots + N + N * M) Q (F0 m (pc + 4) ls (.ref H.size :: rest))) :
    W p l e R s m args below meth c H locs cells slots Q (F0 m pc ls (.int k :: .int n :: rest)) := by
  obtain ⟨⟨cR, cA, kA, hcR, hkA, hkindA, hnA⟩, cR', hcR', ⟨kR, c0, hkR, hkindR⟩, hRA⟩ := hM
  cases hcR.symm.trans hcR'
  obtain ⟨by8, hdf, hdd⟩ := mul_bytes ty hty
  subst hN; subst hM0
  intro T hT X
  subst hT
  have hpl : e.platform.magicAccessors = ({} : Platform).magicAccessors := by rw [X.admits.platform]
  obtain ⟨c1, hfc, hcl⟩ := Cond.classLink_spec hown hlink e.platform hpl
  cases hnA.symm.trans hfc
  obtain ⟨hg1, hw1, -⟩ := State.classEntry (e := e) X.warmed hcl
  generalize T.vm.noted m.cls idx (.cls cA) = vm1 at hg1 hw1
  obtain ⟨kA1, hkA1, heA⟩ := hw1.alike.2.2 _ _ hkA
  obtain ⟨kR1, hkR1, heR⟩ := hw1.alike.2.2 _ _ hkR
  have X1 := X.noted hw1
  have XF := mst_stand X1 cA cR n.toNatClampNeg k.toNatClampNeg (defaultValue ty) n.toNatClampNeg (Nat.le_refl _)
  obtain ⟨f1, f2, -, -, f5, f6⟩ := mst_facts (T.setVm vm1) cA cR n.toNatClampNeg k.toNatClampNeg (defaultValue ty) n.toNatClampNeg
  obtain ⟨t, a1, b1⟩ := kk _ cA cR f1 f2 f5 f6 ⟨fun N z => ⟨(fun k h => by cases h), kA, hkA, cR, hkindA⟩, hnA⟩ ⟨fun N z => ⟨(fun k h => by cases h), kR, hkR, c0, hkindR⟩, hRA⟩ _ rfl XF
  obtain ⟨r1, r2⟩ := X.heapHas hcells hslots
  refine ⟨t, ?_, b1⟩
  have hdg' : decode c.code pc = .ok (.multianewarray idx 2, 4) := by rw [hb]; exact hdg
  have lim : e.platform.arrayLengthLimit ≥ 65536 := by rw [Launch.admits_arrayLengthLimit X.admits]; decide
  have hbm : e.platform.maxHeapBytes = 536870912 := Launch.admits_maxHeapBytes X.admits
  have hmul : k.toNatClampNeg * componentBytes ty ≤ 65536 * 8 := Nat.mul_le_mul (by omega) by8
  jvm_step X.here [hx, hdg']
  simp only [Op.multianewarray.sem, wp_bind', W.resolveClassAt_links (State.method?_setTop (F0 m pc ls (.int k :: .int n :: rest)) X.here.top) hg1]
  rw [W.popN, if_neg (by decide)]
  refine ⟨F0 m pc ls (.int k :: .int n :: rest), State.topJava?_setTop' (s := T.setVm vm1) _ X.here.top, [.int n, .int k], rest, rfl, rfl, ?_⟩
  simp only [List.mapM_cons, List.mapM_nil, wp_bind', wp_pure']
  refine mk_rows (kA := kA1) (kR := kR1) (cR := cR) (cc := c0) (ty := ty) hkA1 (by rw [heA]; exact hkindA) hkR1 (by rw [heR]; exact hkindR) hn hk (by omega) (by rw [hbm]; show ¬ n.toNatClampNeg * 4 > _; omega) (by omega) (by rw [hbm]; omega) hdf hdd (by show T.heap.size + 1 + _ ≤ _; omega) (by show T.slotsUsed + _ + _ ≤ _; omega) (fun d' acts' => ?_)
  have eS : ((T.setTop (F0 m pc ls (.int k :: .int n :: rest))).setVm vm1).setTop { F0 m pc ls (.int k :: .int n :: rest) with stack := rest } = (T.setVm vm1).setTop { F0 m pc ls (.int k :: .int n :: rest) with stack := rest } := by
    show ((T.setVm vm1).setTop _).setTop _ = _
    rw [State.setTop_setTop]
  rw [eS, mst_setTop]
  simp only [wp_bind', W.mark, W.pushRef, State.topJava?_setTop' _ XF.here.top, Option.some.injEq, exists_eq_left', State.setTop_setTop, State.heap_setTop]
  intro acts
  simp [jvm, XF.here.top]
  exact a1
end WM
