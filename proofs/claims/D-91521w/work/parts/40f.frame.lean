/-! loops by a measure; frames -/
section LP
variable {d M pc : Nat} {Q : (List V ⊕ Pn) × HS → Prop}
/-- a loop by a measure: the state is anything that gives locals and a heap -/
theorem X_meas {α : Type} (P : α → Prop) (m : α → Nat) (L : α → List V) (H : α → HS) (step : ∀ a, P a → (∀ a', P a' → m a' < m a → X d M pc (L a') [] (H a') Q) → X d M pc (L a) [] (H a) Q) : ∀ a, P a → X d M pc (L a) [] (H a) Q := by
  have key : ∀ n a, m a < n → P a → X d M pc (L a) [] (H a) Q := by
    intro n
    induction n with
    | zero => intro a ha; omega
    | succ n ih =>
      intro a ha hp
      exact step a hp (fun a' hp' hm => ih a' (by omega) hp')
  exact fun a hp => key (m a + 1) a (by omega) hp
/-- a counted loop by an invariant -/
theorem X_inv {α : Type} (P : Nat → α → Prop) (L : Nat → α → List V) (H : α → HS) (n : Nat) (step : ∀ k a, k < n → P k a → (∀ a', P (k + 1) a' → X d M pc (L (k + 1) a') [] (H a') Q) → X d M pc (L k a) [] (H a) Q) (fin : ∀ a, P n a → X d M pc (L n a) [] (H a) Q) : ∀ a, P 0 a → X d M pc (L 0 a) [] (H a) Q := by
  have key : ∀ j k, k + j = n → ∀ a, P k a → X d M pc (L k a) [] (H a) Q := by
    intro j
    induction j with
    | zero => intro k hk a hp; rw [show k = n by omega] at hp ⊢; exact fin a hp
    | succ j ih =>
      intro k hk a hp
      exact step k a (by omega) hp (fun a' hp' => ih (k + 1) (by omega) a' hp')
  exact fun a hp => key n 0 (by omega) a hp
end LP
/-- is a place among those of a list? 999999: every slot of a kind -/
def inS (S : List (Nat × Nat)) (K i : Nat) : Bool := S.any (fun q => Nat.beq q.1 K && (Nat.beq q.2 999999 || Nat.beq q.2 i))
/-- h' is h but for the places of S -/
def Fr (S : List (Nat × Nat)) (h h' : HS) : Prop := (∀ K j i, inS S K i = false → gI h' K j i = gI h K j i ∧ gL h' K j i = gL h K j i ∧ gR h' K j i = gR h K j i) ∧ (∀ K, cn h' K = cn h K) ∧ nc h' = nc h ∧ ns h' = ns h ∧ scL h' = scL h ∧ (∀ i, scX h' i = scX h i)
section FR
variable {S S' : List (Nat × Nat)} {h h' h'' : HS} {K j i K' j' i' : Nat} {v : Int32} {w : Int64} {p : Pn}
theorem gI_sI : gI (sI h K j i v) K' j' i' = if K' = K ∧ j' = j ∧ i' = i then v else gI h K' j' i' := rfl
theorem gL_sL : gL (sL h K j i w) K' j' i' = if K' = K ∧ j' = j ∧ i' = i then w else gL h K' j' i' := rfl
theorem gR_sR : gR (sR h K j i p) K' j' i' = if K' = K ∧ j' = j ∧ i' = i then p else gR h K' j' i' := rfl
theorem gI_sL : gI (sL h K j i w) K' j' i' = gI h K' j' i' := rfl
theorem gI_sR : gI (sR h K j i p) K' j' i' = gI h K' j' i' := rfl
theorem gL_sI : gL (sI h K j i v) K' j' i' = gL h K' j' i' := rfl
theorem gL_sR : gL (sR h K j i p) K' j' i' = gL h K' j' i' := rfl
theorem gR_sI : gR (sI h K j i v) K' j' i' = gR h K' j' i' := rfl
theorem gR_sL : gR (sL h K j i w) K' j' i' = gR h K' j' i' := rfl
theorem cn_sI : cn (sI h K j i v) K' = cn h K' := rfl
theorem cn_sL : cn (sL h K j i w) K' = cn h K' := rfl
theorem cn_sR : cn (sR h K j i p) K' = cn h K' := rfl
theorem sI_here : gI (sI h K j i v) K j i = v := if_pos ⟨rfl, rfl, rfl⟩
theorem sL_here : gL (sL h K j i w) K j i = w := if_pos ⟨rfl, rfl, rfl⟩
theorem sR_here : gR (sR h K j i p) K j i = p := if_pos ⟨rfl, rfl, rfl⟩
theorem sI_kind (hk : Nat.beq K' K = false) : gI (sI h K j i v) K' j' i' = gI h K' j' i' := if_neg (fun z => Nat.ne_of_beq_eq_false hk z.1)
theorem sL_kind (hk : Nat.beq K' K = false) : gL (sL h K j i w) K' j' i' = gL h K' j' i' := if_neg (fun z => Nat.ne_of_beq_eq_false hk z.1)
theorem sR_kind (hk : Nat.beq K' K = false) : gR (sR h K j i p) K' j' i' = gR h K' j' i' := if_neg (fun z => Nat.ne_of_beq_eq_false hk z.1)
theorem sI_slot (hk : Nat.beq i' i = false) : gI (sI h K j i v) K' j' i' = gI h K' j' i' := if_neg (fun z => Nat.ne_of_beq_eq_false hk z.2.2)
theorem sL_slot (hk : Nat.beq i' i = false) : gL (sL h K j i w) K' j' i' = gL h K' j' i' := if_neg (fun z => Nat.ne_of_beq_eq_false hk z.2.2)
theorem sR_slot (hk : Nat.beq i' i = false) : gR (sR h K j i p) K' j' i' = gR h K' j' i' := if_neg (fun z => Nat.ne_of_beq_eq_false hk z.2.2)
theorem sI_ne (hk : i' ≠ i) : gI (sI h K j i v) K' j' i' = gI h K' j' i' := if_neg (fun z => hk z.2.2)
theorem sL_ne (hk : i' ≠ i) : gL (sL h K j i w) K' j' i' = gL h K' j' i' := if_neg (fun z => hk z.2.2)
theorem sR_ne (hk : i' ≠ i) : gR (sR h K j i p) K' j' i' = gR h K' j' i' := if_neg (fun z => hk z.2.2)
theorem Fr_refl : Fr S h h := ⟨fun _ _ _ _ => ⟨rfl, rfl, rfl⟩, fun _ => rfl, rfl, rfl, rfl, fun _ => rfl⟩
theorem Fr_trans (a : Fr S h h') (b : Fr S h' h'') : Fr S h h'' :=
  ⟨fun K j i e => ⟨((b.1 K j i e).1).trans (a.1 K j i e).1, ((b.1 K j i e).2.1).trans (a.1 K j i e).2.1, ((b.1 K j i e).2.2).trans (a.1 K j i e).2.2⟩, fun K => (b.2.1 K).trans (a.2.1 K), b.2.2.1.trans a.2.2.1, b.2.2.2.1.trans a.2.2.2.1, b.2.2.2.2.1.trans a.2.2.2.2.1, fun i => (b.2.2.2.2.2 i).trans (a.2.2.2.2.2 i)⟩
theorem inS_of {q : Nat × Nat} (hq : q ∈ S) (e : inS S K i = false) : ¬ (q.1 = K ∧ (q.2 = 999999 ∨ q.2 = i)) := by
  intro z
  have t := List.any_eq_false.mp e q hq
  apply t
  rcases z with ⟨rfl, z⟩
  rcases z with z | z
  · rw [z, Nat.beq_refl, Nat.beq_refl]; rfl
  · rw [z, Nat.beq_refl, Nat.beq_refl, Bool.or_true]; rfl
theorem inS_sub (hs : S.all (fun q => S'.contains q) = true) (e : inS S' K i = false) : inS S K i = false := by
  apply List.any_eq_false.mpr
  intro q hq
  have h1 := List.all_eq_true.mp hs q hq
  have h2 : q ∈ S' := List.contains_iff_mem.mp h1
  exact List.any_eq_false.mp e q h2
theorem Fr_sub (a : Fr S h h') (hs : S.all (fun q => S'.contains q) = true) : Fr S' h h' := ⟨fun K j i e => a.1 K j i (inS_sub hs e), a.2⟩
theorem Fr_sI (a : Fr S h h') (hk : inS S K i = true) : Fr S h (sI h' K j i v) := by
  refine ⟨fun K' j' i' e => ?_, a.2⟩
  have hn : ¬ (K' = K ∧ j' = j ∧ i' = i) := by
    rintro ⟨rfl, _, rfl⟩
    rw [hk] at e
    cases e
  refine ⟨?_, (a.1 K' j' i' e).2⟩
  rw [gI_sI, if_neg hn]
  exact (a.1 K' j' i' e).1
theorem Fr_sL (a : Fr S h h') (hk : inS S K i = true) : Fr S h (sL h' K j i w) := by
  refine ⟨fun K' j' i' e => ?_, a.2⟩
  have hn : ¬ (K' = K ∧ j' = j ∧ i' = i) := by
    rintro ⟨rfl, _, rfl⟩
    rw [hk] at e
    cases e
  refine ⟨(a.1 K' j' i' e).1, ?_, (a.1 K' j' i' e).2.2⟩
  rw [gL_sL, if_neg hn]
  exact (a.1 K' j' i' e).2.1
theorem Fr_sR (a : Fr S h h') (hk : inS S K i = true) : Fr S h (sR h' K j i p) := by
  refine ⟨fun K' j' i' e => ?_, a.2⟩
  have hn : ¬ (K' = K ∧ j' = j ∧ i' = i) := by
    rintro ⟨rfl, _, rfl⟩
    rw [hk] at e
    cases e
  refine ⟨(a.1 K' j' i' e).1, (a.1 K' j' i' e).2.1, ?_⟩
  rw [gR_sR, if_neg hn]
  exact (a.1 K' j' i' e).2.2
theorem fI (a : Fr S h h') (hk : inS S K i = false) : gI h' K j i = gI h K j i := (a.1 K j i hk).1
theorem fL (a : Fr S h h') (hk : inS S K i = false) : gL h' K j i = gL h K j i := (a.1 K j i hk).2.1
theorem fR (a : Fr S h h') (hk : inS S K i = false) : gR h' K j i = gR h K j i := (a.1 K j i hk).2.2
/-- the same with new cells: at kinds that are whole in S -/
def Fw (S : List (Nat × Nat)) (h h' : HS) : Prop := (∀ K j i, inS S K i = false → gI h' K j i = gI h K j i ∧ gL h' K j i = gL h K j i ∧ gR h' K j i = gR h K j i) ∧ (∀ K, inS S K 999998 = false → cn h' K = cn h K) ∧ scL h' = scL h ∧ (∀ i, scX h' i = scX h i)
theorem Fw_of (a : Fr S h h') : Fw S h h' := ⟨a.1, fun K _ => a.2.1 K, a.2.2.2.2⟩
theorem Fw_refl : Fw S h h := Fw_of Fr_refl
theorem Fw_trans (a : Fw S h h') (b : Fw S h' h'') : Fw S h h'' :=
  ⟨fun K j i e => ⟨((b.1 K j i e).1).trans (a.1 K j i e).1, ((b.1 K j i e).2.1).trans (a.1 K j i e).2.1, ((b.1 K j i e).2.2).trans (a.1 K j i e).2.2⟩, fun K e => (b.2.1 K e).trans (a.2.1 K e), b.2.2.1.trans a.2.2.1, fun i => (b.2.2.2 i).trans (a.2.2.2 i)⟩
theorem Fw_sub (a : Fw S h h') (hs : S.all (fun q => S'.contains q) = true) : Fw S' h h' := ⟨fun K j i e => a.1 K j i (inS_sub hs e), fun K e => a.2.1 K (inS_sub hs e), a.2.2⟩
theorem Fw_sI (a : Fw S h h') (hk : inS S K i = true) : Fw S h (sI h' K j i v) := by
  refine ⟨fun K' j' i' e => ?_, a.2⟩
  have hn : ¬ (K' = K ∧ j' = j ∧ i' = i) := by
    rintro ⟨rfl, _, rfl⟩
    rw [hk] at e
    cases e
  refine ⟨?_, (a.1 K' j' i' e).2⟩
  rw [gI_sI, if_neg hn]
  exact (a.1 K' j' i' e).1
theorem Fw_sL (a : Fw S h h') (hk : inS S K i = true) : Fw S h (sL h' K j i w) := by
  refine ⟨fun K' j' i' e => ?_, a.2⟩
  have hn : ¬ (K' = K ∧ j' = j ∧ i' = i) := by
    rintro ⟨rfl, _, rfl⟩
    rw [hk] at e
    cases e
  refine ⟨(a.1 K' j' i' e).1, ?_, (a.1 K' j' i' e).2.2⟩
  rw [gL_sL, if_neg hn]
  exact (a.1 K' j' i' e).2.1
theorem Fw_sR (a : Fw S h h') (hk : inS S K i = true) : Fw S h (sR h' K j i p) := by
  refine ⟨fun K' j' i' e => ?_, a.2⟩
  have hn : ¬ (K' = K ∧ j' = j ∧ i' = i) := by
    rintro ⟨rfl, _, rfl⟩
    rw [hk] at e
    cases e
  refine ⟨(a.1 K' j' i' e).1, (a.1 K' j' i' e).2.1, ?_⟩
  rw [gR_sR, if_neg hn]
  exact (a.1 K' j' i' e).2.2
theorem inS_mem {q : Nat × Nat} (hq : q ∈ S) (h1 : q.1 = K) (h2 : q.2 = 999999 ∨ q.2 = i) : inS S K i = true := by
  cases e : inS S K i with
  | true => rfl
  | false => exact absurd ⟨h1, h2⟩ (inS_of hq e)
theorem Fw_al {n : Nat} (a : Fw S h h') (hk : (K, 999999) ∈ S) : Fw S h (al h' K n) := by
  have hn : ∀ K' i', inS S K' i' = false → ¬ K' = K := fun K' i' e z => by
    rw [z, inS_mem hk rfl (Or.inl rfl)] at e
    cases e
  refine ⟨fun K' j' i' e => ?_, fun K' e => ?_, a.2.2⟩
  · have z := hn K' i' e
    refine ⟨?_, ?_, ?_⟩
    · exact Eq.trans (if_neg (fun y => z y.1)) (a.1 K' j' i' e).1
    · exact Eq.trans (if_neg (fun y => z y.1)) (a.1 K' j' i' e).2.1
    · exact Eq.trans (if_neg (fun y => z y.1)) (a.1 K' j' i' e).2.2
  · exact Eq.trans (if_neg (hn K' _ e)) (a.2.1 K' e)
theorem wI (a : Fw S h h') (hk : inS S K i = false) : gI h' K j i = gI h K j i := (a.1 K j i hk).1
theorem wL (a : Fw S h h') (hk : inS S K i = false) : gL h' K j i = gL h K j i := (a.1 K j i hk).2.1
theorem wR (a : Fw S h h') (hk : inS S K i = false) : gR h' K j i = gR h K j i := (a.1 K j i hk).2.2
/-- a list of places leaves the pointers that stay alone -/
def shOK (S : List (Nat × Nat)) : Bool := shT.all (fun q => !inS S q.1 q.2.2.1) && shR.all (fun q => !S.any (fun s => Nat.beq s.1 q.1)) && !S.any (fun s => Nat.beq s.1 29360341) && !S.any (fun s => Nat.beq s.1 30408773) && !inS S 3145766 0 && !inS S 3145766 1 && !inS S 3145766 2 && !inS S 3145766 3 && !inS S 11534502 6 && !inS S 3145766 999998 && !inS S 11534502 999998
theorem inS_kind (e : S.any (fun s => Nat.beq s.1 K) = false) : inS S K i = false := by
  apply List.any_eq_false.mpr
  intro q hq
  have h1 := List.any_eq_false.mp e q hq
  cases hb : Nat.beq q.1 K with
  | true => exact absurd hb h1
  | false => simp
theorem Sh_fr (hS : Sh h) (a : Fw S h h') (hk : shOK S = true) : Sh h' := by
  unfold shOK at hk
  simp only [Bool.and_eq_true, Bool.not_eq_true', List.all_eq_true] at hk
  obtain ⟨⟨⟨⟨⟨⟨⟨⟨⟨⟨k1, k2⟩, k3⟩, k4⟩, k5⟩, k6⟩, k7⟩, k8⟩, k9⟩, k10⟩, k11⟩ := hk
  obtain ⟨s1, s2, s3, s4, s5, s6⟩ := hS
  refine ⟨fun q hq => ?_, fun q hq i hi => ?_, fun i hi => ?_, fun i hi => ?_, fun j hj => ?_, fun j hj => ?_⟩
  · rw [wR a (k1 q hq)]; exact s1 q hq
  · rw [wR a (inS_kind (k2 q hq))]; exact s2 q hq i hi
  · rw [wR a (inS_kind k3)]; exact s3 i hi
  · rw [wR a (inS_kind k4)]; exact s4 i hi
  · rw [a.2.1 _ k10] at hj
    rw [wR a k5, wR a k6, wR a k7, wR a k8]; exact s5 j hj
  · rw [a.2.1 _ k11] at hj
    rw [wR a k9]; exact s6 j hj
theorem Sh_sI (hS : Sh h) : Sh (sI h K j i v) := hS
theorem Sh_sL (hS : Sh h) : Sh (sL h K j i w) := hS
end FR
