/-! numbers and loops -/
section NUM
variable {d M pc : Nat} {h : HS} {Q : (List V ⊕ Pn) × HS → Prop}
/-- a loop whose state after k rounds is known -/
theorem X_loop (L : Nat → List V) (H : Nat → HS) (n : Nat) (step : ∀ k, k < n → (X d M pc (L k) [] (H k) Q ↔ X d M pc (L (k + 1)) [] (H (k + 1)) Q)) : X d M pc (L 0) [] (H 0) Q ↔ X d M pc (L n) [] (H n) Q := by
  induction n with
  | zero => exact Iff.rfl
  | succ n ih => exact (ih (fun k hk => step k (by omega))).trans (step n (by omega))
theorem X_loopL (L : Nat → List V) (n : Nat) (step : ∀ k, k < n → (X d M pc (L k) [] h Q ↔ X d M pc (L (k + 1)) [] h Q)) : X d M pc (L 0) [] h Q ↔ X d M pc (L n) [] h Q := X_loop L (fun _ => h) n step
/-- truth as Java has it -/
def tI (c : Prop) [Decidable c] : Int32 := if c then nI 1 else nI 0
theorem nI_one : nI 1 = 1 := by decide
theorem nI_zero : nI 0 = 0 := by decide
theorem w_0 : (nI 0 = 0 ∨ nI 0 = 1) = True := by decide
theorem w_1 : (nI 1 = 0 ∨ nI 1 = 1) = True := by decide
theorem tI_or {c : Prop} [Decidable c] : (tI c = 0 ∨ tI c = 1) = True := by unfold tI; split <;> decide
theorem tI_eq0 {c : Prop} [Decidable c] : tI c = 0 ↔ ¬ c := by
  unfold tI
  split
  · rename_i q
    exact ⟨fun z => absurd z (by decide), fun z => absurd q z⟩
  · rename_i q
    exact ⟨fun _ => q, fun _ => by decide⟩
theorem tI_congr {a b : Prop} [Decidable a] [Decidable b] (hab : a ↔ b) : tI a = tI b := by
  unfold tI
  by_cases q : a
  · rw [if_pos q, if_pos (hab.mp q)]
  · rw [if_neg q, if_neg (fun z => q (hab.mpr z))]
theorem tI_t {c : Prop} [Decidable c] (q : c) : tI c = nI 1 := if_pos q
theorem tI_f {c : Prop} [Decidable c] (q : ¬ c) : tI c = nI 0 := if_neg q
/-- an int that is not negative and less than some number -/
theorem nI_ex {x : Int32} {n : Nat} (h0 : ¬ x < 0) (h1 : x < nI n) (hn : n < 2 ^ 31) : ∃ k, k < n ∧ x = nI k := by
  obtain ⟨k, hk, rfl⟩ := nI_of h0
  exact ⟨k, (nI_ltI hk hn).mp h1, rfl⟩
theorem nI_exT {x : Int32} (h0 : 0 ≤ x.toInt) : ∃ k : Nat, k < 2 ^ 31 ∧ x = nI k ∧ x.toInt = k := by
  have h1 : ¬ x < 0 := by
    intro z
    have := Int32.lt_iff_toInt_lt.mp z
    have e : (0 : Int32).toInt = 0 := by decide
    omega
  obtain ⟨k, hk, rfl⟩ := nI_of h1
  exact ⟨k, hk, rfl, nI_toInt hk⟩
theorem nI_neg1 {k : Nat} (hk : k < 2 ^ 31) : ¬ nI k = -1 := by
  intro e
  have := congrArg Int32.toInt e
  rw [nI_toInt hk] at this
  have h2 : (-1 : Int32).toInt = -1 := by decide
  rw [h2] at this
  omega
theorem nI_up (k : Nat) : nI k + nI 1 = nI (k + 1) := nI_add k 1
end NUM
