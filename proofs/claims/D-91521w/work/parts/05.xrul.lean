/-! the rules of X -/
theorem exec_mono : ∀ (n d M pc : Nat) (L S : List V) (h : HS) (r : (List V ⊕ Pn) × HS), exec n d M pc L S h = some r → exec (n + 1) d M pc L S h = some r := by
  intro n
  induction n with
  | zero =>
    intro d M pc L S h r e
    simp [exec] at e
  | succ n ih =>
    intro d M pc L S h r e
    rw [exec] at e
    rw [exec]
    cases hi : ins M pc with
    | none => simp [hi] at e
    | some q =>
      obtain ⟨i, len⟩ := q
      simp only [hi] at e ⊢
      cases hp : pureI i L S with
      | some q =>
        obtain ⟨L', S'⟩ := q
        simp only [hp] at e ⊢
        exact ih _ _ _ _ _ _ _ e
      | none =>
        simp only [hp] at e ⊢
        cases hj : jmpI i pc S with
        | some q =>
          obtain ⟨pc', S'⟩ := q
          simp only [hj] at e ⊢
          exact ih _ _ _ _ _ _ _ e
        | none =>
          simp only [hj] at e ⊢
          cases hh : heapI M pc i S h with
          | some q =>
            obtain ⟨S', h'⟩ := q
            simp only [hh] at e ⊢
            exact ih _ _ _ _ _ _ _ e
          | none =>
            simp only [hh] at e ⊢
            cases hc : cllI M i S with
            | none =>
              simp only [hc] at e ⊢
              exact e
            | some q =>
              obtain ⟨M', as, S'⟩ := q
              simp only [hc] at e ⊢
              cases d with
              | zero => simp at e
              | succ d' =>
                simp only at e ⊢
                by_cases hl : (spread as).length ≤ mloc M' ∧ argOK as = true
                · simp only [hl, and_self, if_true] at e ⊢
                  cases hx : exec n d' M' 0 (entL M' as) [] h with
                  | none => simp [hx] at e
                  | some q =>
                    rw [ih _ _ _ _ _ _ _ hx]
                    obtain ⟨q, h'⟩ := q
                    cases q with
                    | inl vs =>
                      simp only [hx] at e ⊢
                      exact ih _ _ _ _ _ _ _ e
                    | inr p =>
                      simp only [hx] at e ⊢
                      cases hd : hdl M pc with
                      | none =>
                        simp only [hd] at e ⊢
                        exact e
                      | some t =>
                        simp only [hd] at e ⊢
                        exact ih _ _ _ _ _ _ _ e
                · simp only [hl, if_false] at e
                  cases e
theorem exec_more {n d M pc : Nat} {L S : List V} {h : HS} {r : (List V ⊕ Pn) × HS} (e : exec n d M pc L S h = some r) (k : Nat) : exec (n + k) d M pc L S h = some r := by
  induction k with
  | zero => exact e
  | succ k ih => exact exec_mono _ _ _ _ _ _ _ _ ih
section XR
variable {d d' M pc pc' len : Nat} {i : Instr} {L L' S S' : List V} {h h' : HS} {Q : (List V ⊕ Pn) × HS → Prop}
theorem X_pure (hi : ins M pc = some (i, len)) (hp : pureI i L S = some (L', S')) : X d M pc L S h Q ↔ X d M (pc + len) L' S' h Q := by
  constructor
  · rintro ⟨n, r, e, q⟩
    cases n with
    | zero => simp [exec] at e
    | succ n =>
      rw [exec] at e
      simp only [hi, hp] at e
      exact ⟨n, r, e, q⟩
  · rintro ⟨n, r, e, q⟩
    exact ⟨n + 1, r, by rw [exec]; simp only [hi, hp]; exact e, q⟩
theorem X_jmp (hi : ins M pc = some (i, len)) (hp : pureI i L S = none) (hj : jmpI i pc S = some (pc', S')) : X d M pc L S h Q ↔ X d M pc' L S' h Q := by
  constructor
  · rintro ⟨n, r, e, q⟩
    cases n with
    | zero => simp [exec] at e
    | succ n =>
      rw [exec] at e
      simp only [hi, hp, hj] at e
      exact ⟨n, r, e, q⟩
  · rintro ⟨n, r, e, q⟩
    exact ⟨n + 1, r, by rw [exec]; simp only [hi, hp, hj]; exact e, q⟩
theorem X_heap (hi : ins M pc = some (i, len)) (hp : pureI i L S = none) (hj : jmpI i pc S = none) (hh : heapI M pc i S h = some (S', h')) : X d M pc L S h Q ↔ X d M (pc + len) L S' h' Q := by
  constructor
  · rintro ⟨n, r, e, q⟩
    cases n with
    | zero => simp [exec] at e
    | succ n =>
      rw [exec] at e
      simp only [hi, hp, hj, hh] at e
      exact ⟨n, r, e, q⟩
  · rintro ⟨n, r, e, q⟩
    exact ⟨n + 1, r, by rw [exec]; simp only [hi, hp, hj, hh]; exact e, q⟩
theorem X_end {r : (List V ⊕ Pn) × HS} (hi : ins M pc = some (i, len)) (hp : pureI i L S = none) (hj : jmpI i pc S = none) (hh : heapI M pc i S h = none) (hc : cllI M i S = none) (he : endI M pc i S h = some r) : X d M pc L S h Q ↔ Q r := by
  constructor
  · rintro ⟨n, r', e, q⟩
    cases n with
    | zero => simp [exec] at e
    | succ n =>
      rw [exec] at e
      simp only [hi, hp, hj, hh, hc, he] at e
      cases e
      exact q
  · intro q
    exact ⟨1, r, by rw [exec]; simp only [hi, hp, hj, hh, hc, he], q⟩
/-- what goes on behind a call -/
def XB (d M pc len : Nat) (L S : List V) (Q : (List V ⊕ Pn) × HS → Prop) (r : (List V ⊕ Pn) × HS) : Prop := match r with
  | (.inl vs, h') => X d M (pc + len) L (vs ++ S) h' Q
  | (.inr p, h') => (match hdl M pc with
    | none => Q (.inr p, h')
    | some t => X d M t L [vR p] h' Q)
theorem X_call {M' : Nat} {as : List V} (hi : ins M pc = some (i, len)) (hp : pureI i L S = none) (hj : jmpI i pc S = none) (hh : heapI M pc i S h = none) (hc : cllI M i S = some (M', as, S')) (hl : (spread as).length ≤ mloc M' ∧ argOK as = true) :
    X (d' + 1) M pc L S h Q ↔ Ev d' M' as h (XB (d' + 1) M pc len L S' Q) := by
  constructor
  · rintro ⟨n, r, e, q⟩
    cases n with
    | zero => simp [exec] at e
    | succ n =>
      rw [exec] at e
      simp only [hi, hp, hj, hh, hc, hl, and_self, if_true] at e
      cases hx : exec n d' M' 0 (entL M' as) [] h with
      | none => simp [hx] at e
      | some z =>
        obtain ⟨z, h'⟩ := z
        refine ⟨n, (z, h'), hx, ?_⟩
        cases z with
        | inl vs =>
          simp only [hx] at e
          exact ⟨n, r, e, q⟩
        | inr p =>
          simp only [hx] at e
          show (match hdl M pc with
            | none => Q (.inr p, h')
            | some t => X (d' + 1) M t L [vR p] h' Q)
          cases hd : hdl M pc with
          | none =>
            simp only [hd] at e
            cases e
            exact q
          | some t =>
            simp only [hd] at e
            exact ⟨n, r, e, q⟩
  · rintro ⟨n, ⟨z, h'⟩, e, q⟩
    cases z with
    | inl vs =>
      obtain ⟨n2, r, e2, q2⟩ := q
      refine ⟨n + n2 + 1, r, ?_, q2⟩
      rw [exec]
      simp only [hi, hp, hj, hh, hc, hl, and_self, if_true]
      rw [exec_more e n2]
      simp only
      rw [Nat.add_comm]
      exact exec_more e2 n
    | inr p =>
      have q : (match hdl M pc with
        | none => Q (.inr p, h')
        | some t => X (d' + 1) M t L [vR p] h' Q) := q
      cases hd : hdl M pc with
      | none =>
        rw [hd] at q
        refine ⟨n + 1, _, ?_, q⟩
        rw [exec]
        simp only [hi, hp, hj, hh, hc, hl, and_self, if_true, e, hd]
      | some t =>
        rw [hd] at q
        obtain ⟨n2, r, e2, q2⟩ := q
        refine ⟨n + n2 + 1, r, ?_, q2⟩
        rw [exec]
        simp only [hi, hp, hj, hh, hc, hl, and_self, if_true]
        rw [exec_more e n2]
        simp only [hd]
        rw [Nat.add_comm]
        exact exec_more e2 n
theorem X_mono {Q' : (List V ⊕ Pn) × HS → Prop} (hx : X d M pc L S h Q) (hq : ∀ r, Q r → Q' r) : X d M pc L S h Q' := by
  obtain ⟨n, r, e, q⟩ := hx
  exact ⟨n, r, e, hq r q⟩
theorem Ev_mono {as : List V} {Q' : (List V ⊕ Pn) × HS → Prop} (hx : Ev d M as h Q) (hq : ∀ r, Q r → Q' r) : Ev d M as h Q' := X_mono hx hq
theorem X_ite {c : Prop} [Decidable c] {a b : Nat} : X d M (if c then a else b) L S h Q ↔ if c then X d M a L S h Q else X d M b L S h Q := by
  split <;> exact Iff.rfl
end XR
