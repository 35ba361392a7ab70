/-! the abstract machine and the real one: the start of a callee -/
section CALL
variable {E : EV} {ad ad0 : Pn → Nat} {A : Nat → Prop} {Ls : Nat} {xs : Nat → Int32}
theorem spread_cons (v : V) (as : List V) : spread (v :: as) = (match v with
  | .inr (.inl x) => [vL x, vS]
  | v => [v]) ++ spread as := by
  unfold spread
  rw [List.flatMap_cons]
  rfl
theorem sl_cons (v : Value) (vs : List Value) : lg_sl (v :: vs) = (if v.category = 2 then [.val v, .second] else [.val v]) ++ lg_sl vs := by
  unfold lg_sl
  rw [List.flatMap_cons]
theorem wfL_cons1 {v : V} {L : List V} (hv : ∀ x, v ≠ vL x) (hs : v ≠ vS) (hw : wfL L) : wfL (v :: L) := by
  obtain ⟨w1, w2⟩ := hw
  refine ⟨fun k x hx => ?_, fun k hx => ?_⟩
  · cases k with
    | zero => exact absurd (Option.some.inj hx) (hv x)
    | succ k => exact w1 k x hx
  · cases k with
    | zero => exact absurd (Option.some.inj hx) hs
    | succ k =>
      obtain ⟨j, x, e, hj⟩ := w2 k hx
      exact ⟨j + 1, x, by omega, hj⟩
theorem wfL_cons2 {x : Int64} {L : List V} (hw : wfL L) : wfL (vL x :: vS :: L) := by
  obtain ⟨w1, w2⟩ := hw
  refine ⟨fun k y hy => ?_, fun k hy => ?_⟩
  · cases k with
    | zero => rfl
    | succ k =>
      cases k with
      | zero => cases hy
      | succ k => exact w1 k y hy
  · cases k with
    | zero => cases hy
    | succ k =>
      cases k with
      | zero => exact ⟨0, x, rfl, rfl⟩
      | succ k =>
        obtain ⟨j, y, e, hj⟩ := w2 k hy
        exact ⟨j + 2, y, by omega, hj⟩
theorem spread_get (hE : opqOK E) : ∀ (as : List V), argOK as = true → (lg_sl (as.map (cv E ad))).length = (spread as).length ∧ (∀ (k : Nat) (v : V), (spread as)[k]? = some v → isv v = true → (lg_sl (as.map (cv E ad)))[k]? = some (Slot.val (cv E ad v))) ∧ wfL (spread as) := by
  intro as
  induction as with
  | nil =>
    intro _
    refine ⟨rfl, fun k v hv => ?_, fun k x hx => ?_, fun k hx => ?_⟩
    · simp [spread] at hv
    · simp [spread] at hx
    · simp [spread] at hx
  | cons v as ih =>
    intro hok
    have hok2 : argOK as = true := by unfold argOK at hok ⊢; rw [List.all_cons, Bool.and_eq_true] at hok; exact hok.2
    have hv0 : isv v = true := by
      unfold argOK at hok
      rw [List.all_cons, Bool.and_eq_true] at hok
      rcases v with x | x | q | b
      · rfl
      · rfl
      · rfl
      · cases hok.1
    obtain ⟨i1, i2, i3⟩ := ih hok2
    rw [List.map_cons, sl_cons, spread_cons]
    have one : ∀ v : V, cat1 v = true → isv v = true → (if (cv E ad v).category = 2 then [Slot.val (cv E ad v), Slot.second] else [Slot.val (cv E ad v)]) = [Slot.val (cv E ad v)] := fun v hc hi => if_neg (by rw [cat1_cv hE hc]; decide)
    rcases v with x | x | q | b
    · rw [one _ rfl rfl]
      refine ⟨by simp [i1], fun k v hv hi => ?_, wfL_cons1 (fun x z => by cases z) (fun z => by cases z) i3⟩
      cases k with
      | zero => cases hv; rfl
      | succ k => exact i2 k v hv hi
    · have e2 : (if (cv E ad (.inr (.inl x))).category = 2 then [Slot.val (cv E ad (.inr (.inl x))), Slot.second] else [Slot.val (cv E ad (.inr (.inl x)))]) = [Slot.val (cv E ad (.inr (.inl x))), Slot.second] := if_pos rfl
      rw [e2]
      refine ⟨by simp [i1], fun k v hv hi => ?_, wfL_cons2 i3⟩
      cases k with
      | zero => cases hv; rfl
      | succ k =>
        cases k with
        | zero => cases hv; cases hi
        | succ k => exact i2 k v hv hi
    · rw [one _ rfl rfl]
      refine ⟨by simp [i1], fun k v hv hi => ?_, wfL_cons1 (fun x z => by cases z) (fun z => by cases z) i3⟩
      cases k with
      | zero => cases hv; rfl
      | succ k => exact i2 k v hv hi
    · cases hv0
theorem wfL_pad {L : List V} {n : Nat} (hw : wfL L) : wfL (L ++ List.replicate n vU) := by
  obtain ⟨w1, w2⟩ := hw
  have split : ∀ (k : Nat) (v : V), (L ++ List.replicate n vU)[k]? = some v → L[k]? = some v ∨ v = vU := by
    intro k v hv
    by_cases hl : k < L.length
    · rw [List.getElem?_append_left hl] at hv; exact Or.inl hv
    · rw [List.getElem?_append_right (by omega), List.getElem?_replicate] at hv
      split at hv
      · right; exact (Option.some.inj hv).symm
      · cases hv
  refine ⟨fun k x hx => ?_, fun k hx => ?_⟩
  · rcases split k _ hx with z | z
    · have h1 := w1 k x z
      rw [List.getElem?_append_left (List.getElem?_eq_some_iff.mp h1).1]
      exact h1
    · cases z
  · rcases split k _ hx with z | z
    · obtain ⟨j, x, e, hj⟩ := w2 k z
      exact ⟨j, x, e, by rw [List.getElem?_append_left (List.getElem?_eq_some_iff.mp hj).1]; exact hj⟩
    · cases z
theorem entL_len {M : Nat} {as : List V} (hl : (spread as).length ≤ mloc M) : (entL M as).length = mloc M := by
  unfold entL
  rw [List.length_append, List.length_replicate]
  omega
theorem ent_LSx (hE : opqOK E) {as : List V} {M : Nat} (mk : MethodId) (hok : argOK as = true) (hl : (spread as).length ≤ mloc M) : ∃ ls, entryFrame mk (as.map (cv E ad)).toArray (mloc M) = F0 mk 0 ls [] ∧ LSx E ad (entL M as) ls := by
  obtain ⟨i1, i2, i3⟩ := spread_get (ad := ad) hE as hok
  have he := lv_entry (as.map (cv E ad)) (n := mloc M) (by rw [i1]; exact hl)
  refine ⟨_, lg_entry_eq mk (as.map (cv E ad)) (mloc M), ?_, he.2.1, wfL_pad i3, fun k v hv hi => ?_⟩
  · rw [entL_len hl]
    exact he.1
  · unfold entL at hv
    by_cases hk : k < (spread as).length
    · rw [List.getElem?_append_left hk] at hv
      rw [List.getElem?_toArray, List.getElem?_append_left (by rw [i1]; exact hk)]
      exact i2 k v hv hi
    · rw [List.getElem?_append_right (by omega), List.getElem?_replicate] at hv
      split at hv
      · cases hv; cases hi
      · cases hv
theorem ent_ok {h : HS} {as : List V} {M : Nat} (hs : okS h as) : okS h (entL M as) := by
  intro v hv
  unfold entL at hv
  rcases List.mem_append.mp hv with z | z
  · unfold spread at z
    obtain ⟨w, hw, hv⟩ := List.mem_flatMap.mp z
    have := hs w hw
    rcases w with x | x | q | b
    · rw [List.mem_singleton.mp hv]; trivial
    · simp only [List.mem_cons, List.not_mem_nil, or_false] at hv
      rcases hv with e | e <;> rw [e] <;> trivial
    · rw [List.mem_singleton.mp hv]; exact this
    · rw [List.mem_singleton.mp hv]; trivial
  · rw [List.eq_of_mem_replicate z]; trivial
theorem Cx.moved {s U : State} (hC : Cx E A ad0 Ls xs s) (hW : s.WarmedH U.vm) (hsz : s.heap.size ≤ U.heap.size) (hq : ∀ a : Nat, a < s.heap.size → ¬ A a → U.heap[a]? = s.heap[a]?) : Cx E A ad0 Ls xs U := by
  obtain ⟨c1, c2, c3, c4, c5, c6, c7, c8, c9, c10, c11, hE, hA⟩ := hC
  have hvm := hW.alike
  refine ⟨fun a i b n d ho hm => (c1 a i b n d ho hm).warmF hW, fun a i x ho hm => (c2 a i x ho hm).warmM hW, fun C hm => (c3 C hm).moved hvm, fun x hm => (c4 x hm).warmD hW, fun C T hm => (c5 C T hm).warmC hW, fun j hj => ?_, fun q hm => ((c7 q hm).moved hvm).kept hq, c8.moved hvm, (c9.moved hvm).kept hq, (c10.moved hvm).kept (hq _ c11.1 c11.2), ⟨Nat.lt_of_lt_of_le c11.1 hsz, c11.2⟩, hE, fun q hq => hA q (Nat.le_trans hsz hq)⟩
  obtain ⟨s1, s2, s3, s4, s5⟩ := c6 j hj
  exact ⟨(s1.moved hvm).kept hq, (s2.moved hvm).kept hq, (s3.moved hvm).kept hq, (s4.moved hvm).kept hq, fun own idx hm => (s5 own idx hm).warm hW⟩
theorem Wd.into {s U : State} {H : Heap} {locs : List Loc} {h : HS} (hW : Wd E A ad0 s H locs ad h) (hvm : s.vm.Alike U.vm) (hH : U.heap = H) : Wd E A ad0 U H [] ad h := by
  obtain ⟨ws, tys, pos, cid, hK, hP, hD, hS, hr, hlow⟩ := hW
  exact ⟨ws, tys, pos, cid, hK.moved hvm, hP, hD, by rw [hH]; exact va_S.rf, hr, hlow⟩
theorem Wd.out {s U : State} {H H1 : Heap} {locs L1 : List Loc} {h : HS} (hW : Wd E A ad0 U H1 L1 ad h) (hvm : s.vm.Alike U.vm) (hH : U.heap = H) (hS0 : va_S A s.heap H locs) : Wd E A ad0 s H1 (locs ++ L1) ad h := by
  obtain ⟨ws, tys, pos, cid, hK, hP, hD, hS, hr, hlow⟩ := hW
  rw [hH] at hS
  refine ⟨ws, tys, pos, cid, hK.moved hvm.symm, hP, hD, ⟨Nat.le_trans hS0.1 hS.1, fun q h1 h2 => (hS.2.1 q (Nat.lt_of_lt_of_le h1 hS0.1) h2).trans (hS0.2.1 q h1 h2), fun q hq => ?_⟩, hr, hlow⟩
  rcases List.mem_append.mp hq with z | z
  · exact hS0.2.2 q z
  · exact hS.2.2 q z
end CALL
