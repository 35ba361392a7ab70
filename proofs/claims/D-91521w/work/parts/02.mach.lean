/-! the abstract machine: values, memory -/
/-- a pointer: the kind of its cell (0: null), and its number among the cells of that kind -/
abbrev Pn : Type := Nat × Nat
abbrev V : Type := Int32 ⊕ (Int64 ⊕ (Pn ⊕ Bool))
abbrev vI (x : Int32) : V := Sum.inl x
abbrev vL (x : Int64) : V := Sum.inr (Sum.inl x)
abbrev vR (p : Pn) : V := Sum.inr (Sum.inr (Sum.inl p))
/-- a local that holds nothing, and the second half of a long -/
abbrev vU : V := Sum.inr (Sum.inr (Sum.inr false))
abbrev vS : V := Sum.inr (Sum.inr (Sum.inr true))
/-- counts of cells by kind; ints; longs; pointers; cells made; slots made; the script's length; the script -/
abbrev HS : Type := (Nat → Nat) × (Nat → Nat → Nat → Int32) × (Nat → Nat → Nat → Int64) × (Nat → Nat → Nat → Pn) × Nat × Nat × Nat × (Nat → Int32)
def cn (h : HS) (K : Nat) : Nat := h.1 K
def gI (h : HS) (K j i : Nat) : Int32 := h.2.1 K j i
def gL (h : HS) (K j i : Nat) : Int64 := h.2.2.1 K j i
def gR (h : HS) (K j i : Nat) : Pn := h.2.2.2.1 K j i
def nc (h : HS) : Nat := h.2.2.2.2.1
def ns (h : HS) : Nat := h.2.2.2.2.2.1
def scL (h : HS) : Nat := h.2.2.2.2.2.2.1
def scX (h : HS) (i : Nat) : Int32 := h.2.2.2.2.2.2.2 i
def sI (h : HS) (K j i : Nat) (v : Int32) : HS := (h.1, fun K' j' i' => if K' = K ∧ j' = j ∧ i' = i then v else h.2.1 K' j' i', h.2.2)
def sL (h : HS) (K j i : Nat) (v : Int64) : HS := (h.1, h.2.1, fun K' j' i' => if K' = K ∧ j' = j ∧ i' = i then v else h.2.2.1 K' j' i', h.2.2.2)
def sR (h : HS) (K j i : Nat) (v : Pn) : HS := (h.1, h.2.1, h.2.2.1, fun K' j' i' => if K' = K ∧ j' = j ∧ i' = i then v else h.2.2.2.1 K' j' i', h.2.2.2.2)
/-- a new cell of kind K with n slots -/
def al (h : HS) (K n : Nat) : HS := (fun K' => if K' = K then h.1 K + 1 else h.1 K', fun K' j' i' => if K' = K ∧ j' = h.1 K then 0 else h.2.1 K' j' i', fun K' j' i' => if K' = K ∧ j' = h.1 K then 0 else h.2.2.1 K' j' i', fun K' j' i' => if K' = K ∧ j' = h.1 K then (0, 0) else h.2.2.2.1 K' j' i', h.2.2.2.2.1 + 1, h.2.2.2.2.2.1 + n, h.2.2.2.2.2.2)
/-- n1 rows of kind K2 under one cell of kind K1 -/
def alRows (K1 j1 K2 n2 : Nat) : Nat → Nat → HS → HS
  | 0, _, h => h
  | n + 1, i, h => alRows K1 j1 K2 n2 n (i + 1) (sR (al h K2 n2) K1 j1 i (K2, cn h K2))
def al2 (h : HS) (K1 n1 K2 n2 : Nat) : HS := alRows K1 (cn h K1) K2 n2 n1 0 (al h K1 n1)
/-- System.arraycopy of ints -/
def cpI (h : HS) (K j a K2 j2 b n : Nat) : HS := (h.1, fun K' j' i' => if K' = K2 ∧ j' = j2 ∧ b ≤ i' ∧ i' < b + n then h.2.1 K j (a + (i' - b)) else h.2.1 K' j' i', h.2.2)
def klen (K : Nat) : Nat := K / 16 % 65536
/-- an index in range -/
def inb (i : Int32) (n : Nat) : Prop := ¬ (i < 0 ∨ n ≤ i.toNatClampNeg)
def ix (i : Int32) : Nat := i.toNatClampNeg
theorem inb_nI {k n : Nat} (h : k < 2 ^ 31) : inb (nI k) n ↔ k < n := by
  unfold inb
  rw [nI_clamp h]
  constructor
  · intro q
    rcases Nat.lt_or_ge k n with a | a
    · exact a
    · exact absurd (Or.inr a) q
  · intro q z
    rcases z with z | z
    · exact nI_pos h z
    · omega
theorem ix_nI {k : Nat} (h : k < 2 ^ 31) : ix (nI k) = k := nI_clamp h
