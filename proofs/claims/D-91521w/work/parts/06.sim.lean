/-! the abstract machine and the real one: values and locals -/
/-- class of a kind, slot of a kind's field, the opaque values -/
abbrev EV : Type := (Nat → ClassId) × (Nat → Nat → Nat) × (Nat → Value)
def cvP (E : EV) (ad : Pn → Nat) (p : Pn) : Value := if p.1 = 0 then .null else if p.1 = 7 then E.2.2 p.2 else .ref (ad p)
def cv (E : EV) (ad : Pn → Nat) (v : V) : Value := match v with
  | .inl x => .int x
  | .inr (.inl x) => .long x
  | .inr (.inr (.inl p)) => cvP E ad p
  | .inr (.inr (.inr _)) => .null
def isv (v : V) : Bool := match v with
  | .inr (.inr (.inr _)) => false
  | _ => true
def opqOK (E : EV) : Prop := ∀ j, E.2.2 j = .null ∨ ∃ a, E.2.2 j = .ref a
theorem cvP_ref {E : EV} {ad : Pn → Nat} {p : Pn} (hE : opqOK E) : cvP E ad p = .null ∨ ∃ a, cvP E ad p = .ref a := by
  unfold cvP
  split
  · exact Or.inl rfl
  · split
    · exact hE p.2
    · exact Or.inr ⟨_, rfl⟩
theorem cvP_cat {E : EV} {ad : Pn → Nat} {p : Pn} (hE : opqOK E) : (cvP E ad p).category = 1 := by
  rcases cvP_ref (ad := ad) (p := p) hE with h | ⟨a, h⟩ <;> rw [h] <;> rfl
theorem cat1_cv {E : EV} {ad : Pn → Nat} {v : V} (hE : opqOK E) (h : cat1 v = true) : (cv E ad v).category = 1 := by
  rcases v with x | x | p | b
  · rfl
  · simp [cat1] at h
  · exact cvP_cat hE
  · simp [cat1] at h
theorem cat_le {E : EV} {ad : Pn → Nat} {v : V} : (cv E ad v).category ≤ 2 := by
  rcases lv_cat (cv E ad v) with h | h <;> omega
/-- a long stands before its second half -/
def wfL (L : List V) : Prop := (∀ k x, L[k]? = some (vL x) → L[k + 1]? = some vS) ∧ ∀ k, L[k]? = some vS → ∃ j x, k = j + 1 ∧ L[j]? = some (vL x)
def LSx (E : EV) (ad : Pn → Nat) (L : List V) (ls : Array Slot) : Prop := ls.size = L.length ∧ lv_wf ls ∧ wfL L ∧ ∀ (k : Nat) (v : V), L[k]? = some v → isv v = true → ls[k]? = some (Slot.val (cv E ad v))
def lvl (E : EV) (ad : Pn → Nat) (L : List V) : List (Nat × Value) := (List.range L.length).filterMap (fun i => match L[i]? with
  | some v => if isv v = true then some (i, cv E ad v) else none
  | none => none)
theorem mem_lvl {E : EV} {ad : Pn → Nat} {L : List V} {i : Nat} {w : Value} : (i, w) ∈ lvl E ad L ↔ ∃ v, L[i]? = some v ∧ isv v = true ∧ w = cv E ad v := by
  unfold lvl
  rw [List.mem_filterMap]
  constructor
  · rintro ⟨j, -, h⟩
    cases hj : L[j]? with
    | none => simp [hj] at h
    | some v =>
      simp only [hj] at h
      by_cases hv : isv v = true
      · simp only [hv, if_true, Option.some.injEq, Prod.mk.injEq] at h
        obtain ⟨rfl, rfl⟩ := h
        exact ⟨v, hj, hv, rfl⟩
      · simp [hv] at h
  · rintro ⟨v, h1, h2, rfl⟩
    refine ⟨i, List.mem_range.mpr (List.getElem?_eq_some_iff.mp h1).1, ?_⟩
    simp [h1, h2]
theorem LSx.has {E : EV} {ad : Pn → Nat} {L : List V} {ls : Array Slot} (h : LSx E ad L ls) : lv_has ls L.length (lvl E ad L) := by
  refine ⟨h.1, h.2.1, fun q hq => ?_⟩
  obtain ⟨i, w⟩ := q
  obtain ⟨v, h1, h2, rfl⟩ := mem_lvl.mp hq
  exact h.2.2.2 i v h1 h2
theorem LSx.moved {E : EV} {ad ad' : Pn → Nat} {L : List V} {ls : Array Slot} (h : LSx E ad L ls) (hq : ∀ v ∈ L, isv v = true → cv E ad' v = cv E ad v) : LSx E ad' L ls :=
  ⟨h.1, h.2.1, h.2.2.1, fun k v h1 h2 => by rw [hq v (List.mem_of_getElem? h1) h2]; exact h.2.2.2 k v h1 h2⟩
/-- a cleared list: every place holds what it held, or nothing -/
theorem clr_get {L : List V} {k j : Nat} : (clr L k)[j]? = L[j]? ∨ (clr L k)[j]? = some vU := by
  unfold clr
  split
  · by_cases h : k - 1 = j
    · by_cases hl : k - 1 < L.length
      · subst h; right; simp [hl]
      · left; rw [List.set_eq_of_length_le (by omega)]
    · left; rw [List.getElem?_set_ne h]
  · by_cases h : k + 1 = j
    · by_cases hl : k + 1 < L.length
      · subst h; right; simp [hl]
      · left; rw [List.set_eq_of_length_le (by omega)]
    · left; rw [List.getElem?_set_ne h]
  · left; rfl
theorem clr_len {L : List V} {k : Nat} : (clr L k).length = L.length := by
  unfold clr; split <;> simp
theorem clr_wf {L : List V} {k : Nat} (hw : wfL L) : (∀ j x, j ≠ k → (clr L k)[j]? = some (vL x) → (clr L k)[j + 1]? = some vS ∧ j + 1 ≠ k) ∧ ∀ j, j ≠ k → (clr L k)[j]? = some vS → ∃ i x, j = i + 1 ∧ (clr L k)[i]? = some (vL x) ∧ i ≠ k := by
  obtain ⟨w1, w2⟩ := hw
  unfold clr
  split
  · next hs =>
    obtain ⟨i0, x0, e0, hx0⟩ := w2 k hs
    have hk1 : k - 1 = i0 := by omega
    refine ⟨fun j x hj hx => ?_, fun j hj hx => ?_⟩
    · have hj0 : k - 1 ≠ j := by
        intro q; subst q
        rw [List.getElem?_set_self (by have := (List.getElem?_eq_some_iff.mp hs).1; omega)] at hx
        cases hx
      rw [List.getElem?_set_ne hj0] at hx
      have h1 := w1 j x hx
      have hne : j + 1 ≠ k := by omega
      refine ⟨?_, hne⟩
      rw [List.getElem?_set_ne (by
        intro q
        rw [← q, hk1, hx0] at h1
        cases h1)]
      exact h1
    · have hj0 : k - 1 ≠ j := by
        intro q; subst q
        rw [List.getElem?_set_self (by have := (List.getElem?_eq_some_iff.mp hs).1; omega)] at hx
        cases hx
      rw [List.getElem?_set_ne hj0] at hx
      obtain ⟨i, x, e, hi⟩ := w2 j hx
      have hik : i ≠ k := by
        intro q; subst q; rw [hs] at hi; cases hi
      refine ⟨i, x, e, ?_, hik⟩
      rw [List.getElem?_set_ne (by omega)]
      exact hi
  · next x0 hs =>
    have hs2 := w1 k x0 hs
    refine ⟨fun j x hj hx => ?_, fun j hj hx => ?_⟩
    · have hj0 : k + 1 ≠ j := by
        intro q; subst q
        rw [List.getElem?_set_self (List.getElem?_eq_some_iff.mp hs2).1] at hx
        cases hx
      rw [List.getElem?_set_ne hj0] at hx
      have h1 := w1 j x hx
      have hne : j + 1 ≠ k := by
        intro q; rw [q, hs] at h1; cases h1
      refine ⟨?_, hne⟩
      rw [List.getElem?_set_ne (by omega)]
      exact h1
    · have hj0 : k + 1 ≠ j := by
        intro q; subst q
        rw [List.getElem?_set_self (List.getElem?_eq_some_iff.mp hs2).1] at hx
        cases hx
      rw [List.getElem?_set_ne hj0] at hx
      obtain ⟨i, x, e, hi⟩ := w2 j hx
      have hik : i ≠ k := by omega
      refine ⟨i, x, e, ?_, hik⟩
      rw [List.getElem?_set_ne (by intro q; rw [← q, hs2] at hi; cases hi)]
      exact hi
  · next n1 n2 =>
    refine ⟨fun j x hj hx => ⟨w1 j x hx, fun q => ?_⟩, fun j hj hx => ?_⟩
    · exact n1 (by rw [← q]; exact w1 j x hx)
    · obtain ⟨i, x, e, hi⟩ := w2 j hx
      exact ⟨i, x, e, hi, fun q => n2 x (by rw [← q]; exact hi)⟩
theorem st1_wf {L : List V} {k : Nat} {v : V} (hw : wfL L) (hk : k < L.length) (hv : cat1 v = true) : wfL (st1 L k v) := by
  obtain ⟨c1, c2⟩ := clr_wf (k := k) hw
  have hk' : k < (clr L k).length := by rw [clr_len]; exact hk
  have nl : ∀ x, v ≠ vL x := by intro x e; rw [e] at hv; simp [cat1] at hv
  have nS : v ≠ vS := by intro e; rw [e] at hv; simp [cat1] at hv
  unfold st1
  refine ⟨fun j x hx => ?_, fun j hx => ?_⟩
  · by_cases hj : j = k
    · subst hj
      rw [List.getElem?_set_self hk'] at hx
      exact absurd (Option.some.inj hx) (nl x)
    · rw [List.getElem?_set_ne (Ne.symm hj)] at hx
      obtain ⟨a, b⟩ := c1 j x hj hx
      rw [List.getElem?_set_ne (Ne.symm b)]
      exact a
  · by_cases hj : j = k
    · subst hj
      rw [List.getElem?_set_self hk'] at hx
      exact absurd (Option.some.inj hx) nS
    · rw [List.getElem?_set_ne (Ne.symm hj)] at hx
      obtain ⟨i, x, e, a, b⟩ := c2 j hj hx
      exact ⟨i, x, e, by rw [List.getElem?_set_ne (Ne.symm b)]; exact a⟩
theorem LS_store1 {E : EV} {ad : Pn → Nat} {L : List V} {k : Nat} {v : V} {ls' : Array Slot} (hE : opqOK E) (hw : wfL L) (hk : k < L.length) (hv : cat1 v = true)
    (h : lv_has ls' L.length ((k, cv E ad v) :: (lvl E ad L).filter (fun q => !(q.1 == k) && !(q.1 + 1 == k && q.2.category == 2)))) : LSx E ad (st1 L k v) ls' := by
  refine ⟨by rw [h.1]; unfold st1; simp [clr_len], h.2.1, st1_wf hw hk hv, fun j w hj hs => ?_⟩
  have hk' : k < (clr L k).length := by rw [clr_len]; exact hk
  unfold st1 at hj
  by_cases hjk : j = k
  · subst hjk
    rw [List.getElem?_set_self hk'] at hj
    cases hj
    exact h.2.2 (j, cv E ad v) List.mem_cons_self
  · rw [List.getElem?_set_ne (Ne.symm hjk)] at hj
    have hL : L[j]? = some w := by
      rcases clr_get (L := L) (k := k) (j := j) with e | e
      · rw [← e]; exact hj
      · rw [e] at hj; cases hj; simp [isv] at hs
    refine h.2.2 (j, cv E ad w) (List.mem_cons_of_mem _ (List.mem_filter.mpr ⟨mem_lvl.mpr ⟨w, hL, hs, rfl⟩, ?_⟩))
    simp only [Bool.and_eq_true, Bool.not_eq_true', beq_eq_false_iff_ne, Bool.and_eq_false_iff]
    refine ⟨hjk, ?_⟩
    rcases w with x | x | p | b
    · right; rw [cat1_cv hE rfl]; decide
    · left
      exact ((clr_wf (k := k) hw).1 j x hjk hj).2
    · right
      show ¬ (cvP E ad p).category = 2
      rw [cvP_cat hE]
      decide
    · simp [isv] at hs
theorem st1_len {L : List V} {k : Nat} {v : V} : (st1 L k v).length = L.length := by
  unfold st1; simp [clr_len]
theorem st1_get {L : List V} {k j : Nat} {v w : V} (hj : j ≠ k) (h : (st1 L k v)[j]? = some w) (hs : isv w = true) : L[j]? = some w := by
  unfold st1 at h
  rw [List.getElem?_set_ne (Ne.symm hj)] at h
  rcases clr_get (L := L) (k := k) (j := j) with e | e
  · rw [← e]; exact h
  · rw [e] at h; cases h; simp [isv] at hs
theorem st1_self {L : List V} {k : Nat} {v : V} (hk : k < L.length) : (st1 L k v)[k]? = some v := by
  unfold st1
  rw [List.getElem?_set_self (by rw [clr_len]; exact hk)]
theorem st2_wf {L : List V} {k : Nat} {x : Int64} (hw : wfL L) (hk : k + 1 < L.length) : wfL (st2 L k (vL x)) := by
  have w1 := st1_wf (k := k) (v := vI 0) hw (by omega) rfl
  have w2 := st1_wf (k := k + 1) (v := vI 0) w1 (by rw [st1_len]; exact hk) rfl
  unfold st2
  generalize hA : st1 (st1 L k (vI 0)) (k + 1) (vI 0) = A at w2 ⊢
  have hl : A.length = L.length := by rw [← hA, st1_len, st1_len]
  have a1 : A[k + 1]? = some (vI 0) := by rw [← hA]; exact st1_self (by rw [st1_len]; exact hk)
  have a0 : ∀ w, A[k]? = some w → isv w = true → w = vI 0 := by
    intro w h hs
    rw [← hA] at h
    have h2 := st1_get (by omega) h hs
    rw [st1_self (by omega)] at h2
    exact (Option.some.inj h2).symm
  obtain ⟨w1, w2⟩ := w2
  refine ⟨fun j y hy => ?_, fun j hy => ?_⟩
  · by_cases h1 : j = k + 1
    · subst h1
      rw [List.getElem?_set_self (by simp; omega)] at hy
      cases hy
    · rw [List.getElem?_set_ne (Ne.symm h1)] at hy
      by_cases h0 : j = k
      · subst h0
        rw [List.getElem?_set_self (by simp; omega)]
      · rw [List.getElem?_set_ne (Ne.symm h0)] at hy
        have h3 := w1 j y hy
        have n1 : j + 1 ≠ k + 1 := by omega
        have n0 : j + 1 ≠ k := by
          intro q
          rw [q, ← hA] at h3
          unfold st1 at h3
          rw [List.getElem?_set_ne (by omega)] at h3
          rcases clr_get (L := (clr L k).set k (vI 0)) (k := k + 1) (j := k) with e | e
          · rw [e, List.getElem?_set_self (by rw [clr_len]; omega)] at h3; cases h3
          · rw [e] at h3; cases h3
        rw [List.getElem?_set_ne (Ne.symm n1), List.getElem?_set_ne (Ne.symm n0)]
        exact h3
  · by_cases h1 : j = k + 1
    · subst h1
      exact ⟨k, x, rfl, by rw [List.getElem?_set_ne (by omega), List.getElem?_set_self (by omega)]⟩
    · rw [List.getElem?_set_ne (Ne.symm h1)] at hy
      by_cases h0 : j = k
      · subst h0
        rw [List.getElem?_set_self (by omega)] at hy
        cases hy
      · rw [List.getElem?_set_ne (Ne.symm h0)] at hy
        obtain ⟨i, y, e, hi⟩ := w2 j hy
        have n1 : i ≠ k + 1 := by
          intro q; rw [q, a1] at hi; cases hi
        have n0 : i ≠ k := by
          intro q
          rw [q] at hi
          have := a0 _ hi rfl
          cases this
        exact ⟨i, y, e, by rw [List.getElem?_set_ne (Ne.symm n1), List.getElem?_set_ne (Ne.symm n0)]; exact hi⟩
theorem LS_store2 {E : EV} {ad : Pn → Nat} {L : List V} {k : Nat} {x : Int64} {ls' : Array Slot} (hE : opqOK E) (hw : wfL L) (hk : k + 1 < L.length)
    (h : lv_has ls' L.length ((k, .long x) :: (lvl E ad L).filter (fun q => !(q.1 == k) && (!(q.1 == k + 1) && !(q.1 + 1 == k && q.2.category == 2))))) : LSx E ad (st2 L k (vL x)) ls' := by
  refine ⟨by rw [h.1]; unfold st2; simp [st1_len], h.2.1, st2_wf hw hk, fun j w hj hs => ?_⟩
  unfold st2 at hj
  by_cases h1 : j = k + 1
  · subst h1
    rw [List.getElem?_set_self (by simp [st1_len]; omega)] at hj
    cases hj
    simp [isv] at hs
  · rw [List.getElem?_set_ne (Ne.symm h1)] at hj
    by_cases h0 : j = k
    · subst h0
      rw [List.getElem?_set_self (by simp [st1_len]; omega)] at hj
      cases hj
      exact h.2.2 (j, .long x) List.mem_cons_self
    · rw [List.getElem?_set_ne (Ne.symm h0)] at hj
      have hj2 := st1_get h1 hj hs
      have hL := st1_get h0 hj2 hs
      refine h.2.2 (j, cv E ad w) (List.mem_cons_of_mem _ (List.mem_filter.mpr ⟨mem_lvl.mpr ⟨w, hL, hs, rfl⟩, ?_⟩))
      simp only [Bool.and_eq_true, Bool.not_eq_true', beq_eq_false_iff_ne, Bool.and_eq_false_iff]
      refine ⟨h0, h1, ?_⟩
      rcases w with y | y | p | b
      · right; rw [cat1_cv hE rfl]; decide
      · left
        have hw1 := st1_wf (k := k) (v := vI 0) hw (by omega) rfl
        intro q
        have := hw1.1 j y hj2
        rw [q, st1_self (by omega)] at this
        cases this
      · right
        show ¬ (cvP E ad p).category = 2
        rw [cvP_cat hE]
        decide
      · simp [isv] at hs
