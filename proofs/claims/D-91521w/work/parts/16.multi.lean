/-! the abstract machine and the real one: arrays of arrays -/
/-- the outer array with its first i rows, the rows lying behind it -/
def mtop (cA : ClassId) (N b i : Nat) : Cell := arrV cA N (fun j => if j < i then Value.ref (b + 1 + j) else Value.null)
def mrow (cR : ClassId) (M : Nat) (dv : Value) : Cell := arrV cR M (fun _ => dv)
def mst (T : State) (cA cR : ClassId) (N M : Nat) (dv : Value) : Nat → State
  | 0 => T.pushCell (mtop cA N T.heap.size 0)
  | i + 1 => ((mst T cA cR N M dv i).pushCell (mrow cR M dv)).setCell T.heap.size (mtop cA N T.heap.size (i + 1))
theorem arrV_const (cA : ClassId) (N : Nat) (v : Value) : ({ cls := cA, slots := Array.replicate N v, vm := .none } : Cell) = arrV cA N (fun _ => v) := by
  unfold arrV
  congr 1
  apply Array.ext
  · simp
  · intro i h1 h2
    simp
theorem mtop_zero (cA : ClassId) (N b : Nat) : ({ cls := cA, slots := Array.replicate N Value.null, vm := .none } : Cell) = mtop cA N b 0 := by
  rw [arrV_const]
  unfold mtop
  simp
theorem mtop_succ (cA : ClassId) {N b i : Nat} (h : i < N) : (mtop cA N b i).setSlot i (.ref (b + 1 + i)) = mtop cA N b (i + 1) := by
  have hs : (mtop cA N b i).slots.setIfInBounds i (.ref (b + 1 + i)) = (mtop cA N b (i + 1)).slots := by
    unfold mtop
    apply Array.ext_getElem?
    intro k
    rw [Array.getElem?_setIfInBounds, arrV_size]
    by_cases e : i = k
    · subst e
      rw [if_pos rfl, if_pos h, arrV_read _ _ h]
      simp
    · rw [if_neg e]
      by_cases hk : k < N
      · rw [arrV_read _ _ hk, arrV_read _ _ hk]
        by_cases hi : k < i
        · rw [if_pos hi, if_pos (by omega)]
        · rw [if_neg hi, if_neg (by omega)]
      · rw [Array.getElem?_eq_none (by rw [arrV_size]; omega), Array.getElem?_eq_none (by rw [arrV_size]; omega)]
  unfold Cell.setSlot
  rw [hs]
  rfl
theorem mst_facts (T : State) (cA cR : ClassId) (N M : Nat) (dv : Value) : ∀ i, (mst T cA cR N M dv i).heap.size = T.heap.size + 1 + i ∧ (mst T cA cR N M dv i).heap[T.heap.size]? = some (mtop cA N T.heap.size i) ∧ (mst T cA cR N M dv i).vm = T.vm ∧ (mst T cA cR N M dv i).slotsUsed = T.slotsUsed + N + i * M ∧
    (∀ a, a < T.heap.size → (mst T cA cR N M dv i).heap[a]? = T.heap[a]?) ∧ ∀ j, j < i → (mst T cA cR N M dv i).heap[T.heap.size + 1 + j]? = some (mrow cR M dv) := by
  intro i
  induction i with
  | zero => exact ⟨by simp [mst], by simp [mst], rfl, by simp [mst, mtop, arrV_size], fun a ha => State.heap_pushCell_of_lt _ _ ha, fun j hj => absurd hj (Nat.not_lt_zero _)⟩
  | succ i ih =>
    obtain ⟨a, b, d, u, o, w⟩ := ih
    have lt0 : T.heap.size < (mst T cA cR N M dv i).heap.size := by omega
    have hb : ((mst T cA cR N M dv i).pushCell (mrow cR M dv)).heap[T.heap.size]? = some (mtop cA N T.heap.size i) := by rw [State.heap_pushCell_of_lt (h := lt0)]; exact b
    refine ⟨by simp [mst, State.setCell, a]; omega, State.heap_setCell_self hb, by simp [mst, d], by simp [mst, u, mrow, arrV_size, Nat.succ_mul]; omega, fun x hx => ?_, fun j hj => ?_⟩
    · show (((mst T cA cR N M dv i).pushCell (mrow cR M dv)).setCell T.heap.size _).heap[x]? = _
      have lx : x < (mst T cA cR N M dv i).heap.size := by omega
      rw [State.heap_setCell_other (Nat.ne_of_gt hx), State.heap_pushCell_of_lt (h := lx)]
      exact o x hx
    · show (((mst T cA cR N M dv i).pushCell (mrow cR M dv)).setCell T.heap.size _).heap[T.heap.size + 1 + j]? = _
      rw [State.heap_setCell_other (show T.heap.size ≠ T.heap.size + 1 + j by omega)]
      rcases Nat.lt_or_ge j i with q | q
      · have lx : T.heap.size + 1 + j < (mst T cA cR N M dv i).heap.size := by omega
        rw [State.heap_pushCell_of_lt (h := lx)]
        exact w j q
      · have e : j = i := by omega
        subst e
        rw [← a]
        exact State.heap_pushCell_size _ _
theorem mst_setTop (T : State) (f : JFrame) (cA cR : ClassId) (N M : Nat) (dv : Value) : ∀ i, mst (T.setTop f) cA cR N M dv i = (mst T cA cR N M dv i).setTop f := by
  intro i
  induction i with
  | zero => rfl
  | succ i ih => simp only [mst, ih, State.heap_setTop, State.pushCell_setTop, State.setCell_setTop]
section MS
variable {p : Program} {l : Launch} {e : Env} {R : Room} {s : State} {m : MethodId} {args : Array Value} {below : List Frame} {meth : Method} {c : Code} {T : State} {locs : List Loc} {cells slots : Nat}
theorem mst_stand (X : Stand p l e R s m args below meth c T locs cells slots) (cA cR : ClassId) (N M : Nat) (dv : Value) : ∀ i, i ≤ N → Stand p l e R s m args below meth c (mst T cA cR N M dv i) (locs ++ (List.range i).map fun j => ⟨T.heap.size, j⟩) (cells + 1 + i) (slots + N + i * M) := by
  intro i
  induction i with
  | zero =>
    intro _
    have h := X.pushed (mtop cA N T.heap.size 0)
    rw [show (mtop cA N T.heap.size 0).slots.size = N from arrV_size _ _ _] at h
    simpa [mst] using h
  | succ i ih =>
    intro hi
    have Y := ih (by omega)
    obtain ⟨a, b, -, -, -, -⟩ := mst_facts T cA cR N M dv i
    have lx : T.heap.size < (mst T cA cR N M dv i).heap.size := by omega
    have hc : ((mst T cA cR N M dv i).pushCell (mrow cR M dv)).heap[T.heap.size]? = some (mtop cA N T.heap.size i) := by rw [State.heap_pushCell_of_lt (h := lx)]; exact b
    have h := (Y.pushed (mrow cR M dv)).stored hc i (.ref (T.heap.size + 1 + i))
    rw [show (mrow cR M dv).slots.size = M from arrV_size _ _ _, mtop_succ cA (by omega)] at h
    rw [List.range_succ, List.map_append, ← List.append_assoc, show slots + N + (i + 1) * M = slots + N + i * M + M by rw [Nat.succ_mul]; omega]
    exact h
end MS
section MW
variable {E : CtlPost} {e : Env} {d : Bool} {acts : List Action} {s : State}
theorem mk_arr {cA comp : ClassId} {k : Class} {ty : FieldType} {len : Nat} {v : Value} (hk : s.vm.classes[cA]? = some k) (hkind : k.kind = .array comp ty) (hl : ¬ len > e.platform.arrayLengthLimit) (hh : ¬ len * componentBytes ty > e.platform.maxHeapBytes) (hf : fits ty v = true) (hd : v.isDefault = true) {Q : Addr → Pre}
    (h1 : s.heap.size < e.platform.maxCells) (h2 : s.slotsUsed + len ≤ e.platform.maxSlots) (hq : Q s.heap.size d acts (s.pushCell (arrV cA len (fun _ => v)))) : wp (Jvm.newArray cA len v) Q E e d acts s := by
  have hfit : ∀ i w, (Array.replicate len v)[i]? = some w → s.fitsSlot cA .none i w = true := by
    intro i w hw
    rw [Array.getElem?_replicate] at hw
    split at hw
    · cases hw
      simp [State.fitsSlot, State.slotType?, hk, hkind, hf]
    · cases hw
  have ha : allocActs (Array.replicate len v) s.heap.size acts = acts := by
    unfold allocActs
    rw [if_pos]
    rw [Array.all_replicate]
    split <;> simp [hd]
  rw [← arrV_const] at hq
  simp only [Jvm.newArray, Jvm.arrayFits, wp_bind', W.ask, W.ite, hl, if_false, wp_pure', W.theClass, hk, hkind, hh, W.alloc, W.stop, Option.some.injEq, exists_eq_left', Array.size_replicate, ha]
  rw [if_neg (by omega)]
  exact ⟨h1, h2, hfit, hq⟩
theorem mk_rows {cA cR cc : ClassId} {kA kR : Class} {ty : FieldType} {n m : Int32} (hA : s.vm.classes[cA]? = some kA) (hkA : kA.kind = .array cR (.array ty)) (hR : s.vm.classes[cR]? = some kR) (hkR : kR.kind = .array cc ty) (hn : ¬ n < 0) (hm : ¬ m < 0)
    (l1 : ¬ n.toNatClampNeg > e.platform.arrayLengthLimit) (b1 : ¬ n.toNatClampNeg * componentBytes (.array ty) > e.platform.maxHeapBytes) (l2 : ¬ m.toNatClampNeg > e.platform.arrayLengthLimit) (b2 : ¬ m.toNatClampNeg * componentBytes ty > e.platform.maxHeapBytes)
    (hdf : fits ty (defaultValue ty) = true) (hdd : (defaultValue ty).isDefault = true) (hc : s.heap.size + 1 + n.toNatClampNeg ≤ e.platform.maxCells) (hs : s.slotsUsed + n.toNatClampNeg + n.toNatClampNeg * m.toNatClampNeg ≤ e.platform.maxSlots)
    {Q : Addr → Pre} (hq : ∀ d' acts', Q s.heap.size d' acts' (mst s cA cR n.toNatClampNeg m.toNatClampNeg (defaultValue ty) n.toNatClampNeg)) : wp (Op.multianewarray.make cA [n, m]) Q E e d acts s := by
  rw [Op.multianewarray.make]
  simp only [wp_bind', W.ite, hn, if_false, wp_pure', W.theClass, hA, hkA, Option.some.injEq, exists_eq_left']
  refine mk_arr hA hkA l1 b1 rfl rfl (by omega) (by have := Nat.zero_le (n.toNatClampNeg * m.toNatClampNeg); omega) ?_
  have hnone : ([m].find? (· < 0)) = none := by simp [hm]
  simp only [hnone]
  rw [ite_self, wp_bind', Std.Legacy.Range.forIn_eq_forIn_range']
  have hz : ([:n.toNatClampNeg] : Std.Legacy.Range).size = n.toNatClampNeg := by simp [Std.Legacy.Range.size]
  rw [hz]
  show wp (forIn (List.range' 0 n.toNatClampNeg 1) PUnit.unit _) _ E e d acts _
  refine wp_forIn_inv (fun rest s' => ∃ i, i ≤ n.toNatClampNeg ∧ rest = List.range' i (n.toNatClampNeg - i) ∧ s' = mst s cA cR n.toNatClampNeg m.toNatClampNeg (defaultValue ty) i) _ _ ⟨0, Nat.zero_le _, rfl, ?_⟩ ?_ ?_
  · show _ = s.pushCell (mtop cA n.toNatClampNeg s.heap.size 0)
    rw [← mtop_zero, arrV_const]
  · rintro x rest s' d' acts' Q' ⟨i, hi, hl, rfl⟩ hnext
    have hlt : i < n.toNatClampNeg := by
      rcases Nat.lt_or_ge i n.toNatClampNeg with h | h
      · exact h
      · rw [show n.toNatClampNeg - i = 0 by omega] at hl; simp at hl
    rw [show n.toNatClampNeg - i = (n.toNatClampNeg - (i + 1)) + 1 by omega, List.range'_succ] at hl
    obtain ⟨rfl, hrest⟩ := List.cons.inj hl
    obtain ⟨f1, f2, f3, f4, -, -⟩ := mst_facts s cA cR n.toNatClampNeg m.toNatClampNeg (defaultValue ty) x
    have hmul : x * m.toNatClampNeg + m.toNatClampNeg ≤ n.toNatClampNeg * m.toNatClampNeg := by
      have := Nat.mul_le_mul_right m.toNatClampNeg (show x + 1 ≤ n.toNatClampNeg from hlt)
      rw [Nat.succ_mul] at this
      exact this
    simp only [wp_bind']
    rw [Op.multianewarray.make]
    simp only [wp_bind', W.ite, hm, if_false, wp_pure', W.theClass, f3, hR, hkR, Option.some.injEq, exists_eq_left']
    refine mk_arr (by rw [f3]; exact hR) hkR l2 b2 hdf hdd (by omega) (by omega) ?_
    have lx : s.heap.size < (mst s cA cR n.toNatClampNeg m.toNatClampNeg (defaultValue ty) x).heap.size := by omega
    simp only [wp_bind', W.writeLoc, wp_pure']
    refine ⟨mtop cA n.toNatClampNeg s.heap.size x, by rw [State.heap_pushCell_of_lt (h := lx)]; exact f2, by simp [mtop, arrV], by show x < (arrV _ _ _).slots.size; rw [arrV_size]; exact hlt, ?_, hnext _ _ _ ⟨x + 1, hlt, hrest, ?_⟩⟩
    · simp [State.fitsSlot, State.slotType?, mtop, arrV, f3, hA, hkA]
      rfl
    · rw [f1, mtop_succ cA hlt]
      rfl
  · rintro s' d' acts' ⟨i, hi, hl, rfl⟩
    have e1 : i = n.toNatClampNeg := by
      rcases Nat.lt_or_ge i n.toNatClampNeg with h | h
      · rw [show n.toNatClampNeg - i = (n.toNatClampNeg - (i + 1)) + 1 by omega, List.range'_succ] at hl; cases hl
      · omega
    subst e1
    simp only [wp_pure']
    exact hq _ _
end MW
