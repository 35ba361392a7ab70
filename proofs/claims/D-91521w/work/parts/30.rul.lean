/-! rules of X by instruction, for the printed blocks -/
section RUL
variable {d M pc len K j k t idx n : Nat} {L S S' : List V} {h h' : HS} {Q : (List V ⊕ Pn) × HS → Prop} {i : Instr}
theorem X_none (hi : ins M pc = some (i, len)) (hp : pureI i L S = none) (hj : jmpI i pc S = none) (hh : heapI M pc i S h = none) (hc : cllI M i S = none) (he : endI M pc i S h = none) : X d M pc L S h Q ↔ False := by
  constructor
  · rintro ⟨n, r, e, q⟩
    cases n with
    | zero => simp [exec] at e
    | succ n =>
      rw [exec] at e
      simp only [hi, hp, hj, hh, hc, he] at e
      cases e
  · exact False.elim
theorem X_if {c : Prop} [Decidable c] (hi : ins M pc = some (i, len)) (hp : pureI i L S = none) (hj : jmpI i pc S = none) (hh : heapI M pc i S h = if c then some (S', h') else none) (hc : cllI M i S = none) (he : endI M pc i S h = none) : X d M pc L S h Q ↔ c ∧ X d M (pc + len) L S' h' Q := by
  by_cases q : c
  · rw [if_pos q] at hh
    exact (X_heap hi hp hj hh).trans ⟨fun z => ⟨q, z⟩, fun z => z.2⟩
  · rw [if_neg q] at hh
    exact (X_none hi hp hj hh hc he).trans ⟨False.elim, fun z => absurd z.1 q⟩
theorem X_ret {c : Prop} [Decidable c] {r : (List V ⊕ Pn) × HS} (hi : ins M pc = some (i, len)) (hp : pureI i L S = none) (hj : jmpI i pc S = none) (hh : heapI M pc i S h = none) (hc : cllI M i S = none) (he : endI M pc i S h = if c then some r else none) : X d M pc L S h Q ↔ c ∧ Q r := by
  by_cases q : c
  · rw [if_pos q] at he
    exact (X_end hi hp hj hh hc he).trans ⟨fun z => ⟨q, z⟩, fun z => z.2⟩
  · rw [if_neg q] at he
    exact (X_none hi hp hj hh hc he).trans ⟨False.elim, fun z => absurd z.1 q⟩
theorem X_ic {m : Int} {x : Int32} (hi : ins M pc = some (i, len)) (hk : pureI i L S = some (L, vI x :: S)) : X d M pc L S h Q ↔ X d M (pc + len) L (vI x :: S) h Q := X_pure hi hk
-- fields
theorem X_getI {j : Nat} (hi : ins M pc = some (.getfield idx, len)) (hf : fld M idx = some (K, k, 0)) : X d M pc L (vR (K, j) :: S) h Q ↔ X d M (pc + len) L (vI (gI h K j k) :: S) h Q :=
  X_heap hi rfl rfl (by simp only [heapI, hf, if_true]; rfl)
theorem X_getZ {j : Nat} (hi : ins M pc = some (.getfield idx, len)) (hf : fld M idx = some (K, k, 5)) : X d M pc L (vR (K, j) :: S) h Q ↔ X d M (pc + len) L (vI (gI h K j k) :: S) h Q :=
  X_heap hi rfl rfl (by simp only [heapI, hf, if_true]; rfl)
theorem X_getL {j : Nat} (hi : ins M pc = some (.getfield idx, len)) (hf : fld M idx = some (K, k, 1)) : X d M pc L (vR (K, j) :: S) h Q ↔ X d M (pc + len) L (vL (gL h K j k) :: S) h Q :=
  X_heap hi rfl rfl (by simp only [heapI, hf, if_true]; rfl)
theorem X_getR {j : Nat} (hi : ins M pc = some (.getfield idx, len)) (hf : fld M idx = some (K, k, 2)) : X d M pc L (vR (K, j) :: S) h Q ↔ X d M (pc + len) L (vR (gR h K j k) :: S) h Q :=
  X_heap hi rfl rfl (by simp only [heapI, hf, if_true]; rfl)
theorem X_getS {j : Nat} {q : Pn} (hi : ins M pc = some (.getfield idx, len)) (hf : fld M idx = some (K, k, 2)) (hq : gR h K j k = q) : X d M pc L (vR (K, j) :: S) h Q ↔ X d M (pc + len) L (vR q :: S) h Q := by
  rw [← hq]; exact X_getR hi hf
theorem X_getSv {j : Nat} (hi : ins M pc = some (.getfield idx, len)) (hf : fld M idx = some (8, k, 3)) : X d M pc L (vR (8, j) :: S) h Q ↔ X d M (pc + len) L (vR (9, j) :: S) h Q :=
  X_heap hi rfl rfl (by simp only [heapI, hf, if_true])
theorem X_getSc {j : Nat} (hi : ins M pc = some (.getfield idx, len)) (hf : fld M idx = some (8, k, 4)) : X d M pc L (vR (8, j) :: S) h Q ↔ X d M (pc + len) L (vI (nI 0) :: S) h Q :=
  X_heap hi rfl rfl (by simp only [heapI, hf, if_true]; rfl)
theorem X_gpI {p : Pn} (hi : ins M pc = some (.getfield idx, len)) (hf : fld M idx = some (K, k, 0)) : X d M pc L (vR p :: S) h Q ↔ p.1 = K ∧ X d M (pc + len) L (vI (gI h K p.2 k) :: S) h Q :=
  X_if hi rfl rfl (by simp only [heapI, hf]; rfl) rfl rfl
theorem X_gpZ {p : Pn} (hi : ins M pc = some (.getfield idx, len)) (hf : fld M idx = some (K, k, 5)) : X d M pc L (vR p :: S) h Q ↔ p.1 = K ∧ X d M (pc + len) L (vI (gI h K p.2 k) :: S) h Q :=
  X_if hi rfl rfl (by simp only [heapI, hf]; rfl) rfl rfl
theorem X_gpL {p : Pn} (hi : ins M pc = some (.getfield idx, len)) (hf : fld M idx = some (K, k, 1)) : X d M pc L (vR p :: S) h Q ↔ p.1 = K ∧ X d M (pc + len) L (vL (gL h K p.2 k) :: S) h Q :=
  X_if hi rfl rfl (by simp only [heapI, hf]; rfl) rfl rfl
theorem X_gpR {p : Pn} (hi : ins M pc = some (.getfield idx, len)) (hf : fld M idx = some (K, k, 2)) : X d M pc L (vR p :: S) h Q ↔ p.1 = K ∧ X d M (pc + len) L (vR (gR h K p.2 k) :: S) h Q :=
  X_if hi rfl rfl (by simp only [heapI, hf]; rfl) rfl rfl
theorem X_putI {j : Nat} {x : Int32} (hi : ins M pc = some (.putfield idx, len)) (hf : fld M idx = some (K, k, 0)) (hok : putok M K k = true) : X d M pc L (vI x :: vR (K, j) :: S) h Q ↔ X d M (pc + len) L S (sI h K j k x) Q :=
  X_heap hi rfl rfl (by simp only [heapI, hf, hok, and_self, if_true]; rfl)
theorem X_putZ {j : Nat} {x : Int32} (hi : ins M pc = some (.putfield idx, len)) (hf : fld M idx = some (K, k, 5)) (hok : putok M K k = true) : X d M pc L (vI x :: vR (K, j) :: S) h Q ↔ (x = 0 ∨ x = 1) ∧ X d M (pc + len) L S (sI h K j k x) Q :=
  X_if hi rfl rfl (by
    simp only [heapI, hf, hok, and_self, if_true, wr]
    by_cases q : x = 0 ∨ x = 1
    · simp [q]
    · simp [q]) rfl rfl
theorem X_putL {j : Nat} {x : Int64} (hi : ins M pc = some (.putfield idx, len)) (hf : fld M idx = some (K, k, 1)) (hok : putok M K k = true) : X d M pc L (vL x :: vR (K, j) :: S) h Q ↔ X d M (pc + len) L S (sL h K j k x) Q :=
  X_heap hi rfl rfl (by simp only [heapI, hf, hok, and_self, if_true]; rfl)
theorem X_putR {j : Nat} {q : Pn} (hi : ins M pc = some (.putfield idx, len)) (hf : fld M idx = some (K, k, 2)) (hok : putok M K k = true) : X d M pc L (vR q :: vR (K, j) :: S) h Q ↔ X d M (pc + len) L S (sR h K j k q) Q :=
  X_heap hi rfl rfl (by simp only [heapI, hf, hok, and_self, if_true]; rfl)
theorem X_ppI {p : Pn} {x : Int32} (hi : ins M pc = some (.putfield idx, len)) (hf : fld M idx = some (K, k, 0)) (hok : putok M K k = true) : X d M pc L (vI x :: vR p :: S) h Q ↔ p.1 = K ∧ X d M (pc + len) L S (sI h K p.2 k x) Q :=
  X_if hi rfl rfl (by simp only [heapI, hf, hok, and_true]; rfl) rfl rfl
theorem X_ppZ {p : Pn} {x : Int32} (hi : ins M pc = some (.putfield idx, len)) (hf : fld M idx = some (K, k, 5)) (hok : putok M K k = true) : X d M pc L (vI x :: vR p :: S) h Q ↔ (p.1 = K ∧ (x = 0 ∨ x = 1)) ∧ X d M (pc + len) L S (sI h K p.2 k x) Q :=
  X_if hi rfl rfl (by
    simp only [heapI, hf, hok, and_true, wr]
    by_cases q1 : p.1 = K
    · by_cases q : x = 0 ∨ x = 1
      · simp [q, q1]
      · simp [q, q1]
    · simp [q1]) rfl rfl
theorem X_ppR {p q : Pn} (hi : ins M pc = some (.putfield idx, len)) (hf : fld M idx = some (K, k, 2)) (hok : putok M K k = true) : X d M pc L (vR q :: vR p :: S) h Q ↔ p.1 = K ∧ X d M (pc + len) L S (sR h K p.2 k q) Q :=
  X_if hi rfl rfl (by simp only [heapI, hf, hok, and_true]; rfl) rfl rfl
-- constants
theorem X_gst {v : V} (hi : ins M pc = some (.getstatic idx, len)) (hf : stat M idx = some v) : X d M pc L S h Q ↔ X d M (pc + len) L (v :: S) h Q :=
  X_heap hi rfl rfl (by simp only [heapI, hf])
theorem X_ldc {v : V} (hi : ins M pc = some (.ldc idx, len)) (hf : ldcv M idx = some v) (hc : cat1 v = true) : X d M pc L S h Q ↔ X d M (pc + len) L (v :: S) h Q :=
  X_heap hi rfl rfl (by simp only [heapI, hf, hc, if_true])
theorem X_ldcw {v : V} (hi : ins M pc = some (.ldc_w idx, len)) (hf : ldcv M idx = some v) (hc : cat1 v = true) : X d M pc L S h Q ↔ X d M (pc + len) L (v :: S) h Q :=
  X_heap hi rfl rfl (by simp only [heapI, hf, hc, if_true])
theorem X_ldc2 {v : V} (hi : ins M pc = some (.ldc2_w idx, len)) (hf : ldcv M idx = some v) (hc : cat1 v = false) : X d M pc L S h Q ↔ X d M (pc + len) L (v :: S) h Q :=
  X_heap hi rfl rfl (by simp only [heapI, hf, hc]; rfl)
-- making
theorem X_new {n : Nat} (hi : ins M pc = some (.new idx, len)) (hf : newk M idx = some (K, n)) : X d M pc L S h Q ↔ (nc h + 1 ≤ NCL ∧ ns h + n ≤ NSL) ∧ X d M (pc + len) L (vR (K, cn h K) :: S) (al h K n) Q :=
  X_if hi rfl rfl (by simp only [heapI, hf]) rfl rfl
theorem X_newa {ty : ArrayType} {N : Nat} {x : Int32} (hi : ins M pc = some (.newarray ty, len)) (hf : site M pc = some K) (hN : klen K = N) (hx : x = nI N) (ht : atOf ty = K % 16) : X d M pc L (vI x :: S) h Q ↔ (nc h + 1 ≤ NCL ∧ ns h + N ≤ NSL) ∧ X d M (pc + len) L (vR (K, cn h K) :: S) (al h K N) Q := by
  subst hN
  exact X_if hi rfl rfl (by simp only [heapI, hf, hx, ht, true_and]) rfl rfl
theorem X_anew {N : Nat} {x : Int32} (hi : ins M pc = some (.anewarray idx, len)) (hf : an M pc = some (idx, K)) (hN : klen K = N) (hx : x = nI N) : X d M pc L (vI x :: S) h Q ↔ (nc h + 1 ≤ NCL ∧ ns h + N ≤ NSL) ∧ X d M (pc + len) L (vR (K, cn h K) :: S) (al h K N) Q := by
  subst hN
  exact X_if hi rfl rfl (by simp only [heapI, hf, hx, true_and]) rfl rfl
theorem X_mul2 {K2 N N2 : Nat} {x y : Int32} (hi : ins M pc = some (.multianewarray idx 2, len)) (hf : site2 M pc = some (idx, K, K2)) (hN : klen K = N) (hN2 : klen K2 = N2) (hx : x = nI N) (hy : y = nI N2) : X d M pc L (vI y :: vI x :: S) h Q ↔ (nc h + 1 + N ≤ NCL ∧ ns h + N + N * N2 ≤ NSL) ∧ X d M (pc + len) L (vR (K, cn h K) :: S) (al2 h K N K2 N2) Q := by
  subst hN; subst hN2
  exact X_if hi rfl rfl (by simp only [heapI, hf, hx, hy, true_and]) rfl rfl
-- arrays
theorem X_len {N : Nat} {j : Nat} (hi : ins M pc = some (.arraylength, len)) (hN : klen K = N) (hk : 1048576 ≤ K ∧ 1 ≤ K % 16 ∧ K % 16 ≤ 5) : X d M pc L (vR (K, j) :: S) h Q ↔ X d M (pc + len) L (vI (nI N) :: S) h Q :=
  X_heap hi rfl rfl (by simp only [heapI, aLen]; rw [if_neg (by show ¬ K = 10; omega), if_neg (by show ¬ K = 9; omega), if_neg (by show ¬ K = 11; omega), if_pos hk, hN])
theorem X_len9 {j : Nat} (hi : ins M pc = some (.arraylength, len)) : X d M pc L (vR (9, j) :: S) h Q ↔ X d M (pc + len) L (vI (nI (slen j)) :: S) h Q :=
  X_heap hi rfl rfl rfl
theorem X_len10 (hi : ins M pc = some (.arraylength, len)) : X d M pc L (vR (10, 0) :: S) h Q ↔ X d M (pc + len) L (vI (nI (scL h)) :: S) h Q :=
  X_heap hi rfl rfl rfl
theorem aLen_at {N j : Nat} (hN : klen K = N) (hk : 1048576 ≤ K ∧ 1 ≤ K % 16 ∧ K % 16 ≤ 5) : aLen h (K, j) = some N := by
  simp only [aLen]
  rw [if_neg (by show ¬ K = 10; omega), if_neg (by show ¬ K = 9; omega), if_neg (by show ¬ K = 11; omega), if_pos hk, hN]
theorem ite_not {α : Type} {c : Prop} [Decidable c] {a b : α} : (if ¬ c then a else b) = if c then b else a := by
  by_cases q : c
  · rw [if_neg (fun z => z q), if_pos q]
  · rw [if_pos q, if_neg q]
theorem X_iald {N j : Nat} {x : Int32} (hi : ins M pc = some (.iaload, len)) (hN : klen K = N) (hk : 1048576 ≤ K ∧ K % 16 = 1) : X d M pc L (vI x :: vR (K, j) :: S) h Q ↔ inb x N ∧ X d M (pc + len) L (vI (gI h K j (ix x)) :: S) h Q := by
  haveI : Decidable (inb x N) := inferInstanceAs (Decidable (¬ _))
  refine X_if hi rfl rfl ?_ rfl rfl
  simp only [heapI, ialI]
  rw [aLen_at hN (by omega)]
  simp only
  by_cases q : x < 0 ∨ N ≤ x.toNatClampNeg
  · rw [if_pos q, if_neg (show ¬ inb x _ from fun z => z q)]
  · rw [if_neg q, if_neg (by show ¬ K = 10; omega), if_neg (by show ¬ K = 11; omega), if_pos ⟨hk.2, hk.1⟩, if_pos (show inb x N from q)]; rfl
theorem X_bald {N j : Nat} {x : Int32} (hi : ins M pc = some (.baload, len)) (hN : klen K = N) (hk : 1048576 ≤ K ∧ (K % 16 = 2 ∨ K % 16 = 3)) : X d M pc L (vI x :: vR (K, j) :: S) h Q ↔ inb x N ∧ X d M (pc + len) L (vI (gI h K j (ix x)) :: S) h Q := by
  haveI : Decidable (inb x N) := inferInstanceAs (Decidable (¬ _))
  refine X_if hi rfl rfl ?_ rfl rfl
  simp only [heapI, balI]
  rw [aLen_at hN (by omega)]
  simp only
  by_cases q : x < 0 ∨ N ≤ x.toNatClampNeg
  · rw [if_pos q, if_neg (show ¬ inb x _ from fun z => z q)]
  · rw [if_neg q, if_neg (by show ¬ K = 9; omega), if_pos ⟨hk.2, hk.1⟩, if_pos (show inb x N from q)]; rfl
theorem X_bald9 {j : Nat} {x : Int32} (hi : ins M pc = some (.baload, len)) : X d M pc L (vI x :: vR (9, j) :: S) h Q ↔ inb x (slen j) ∧ X d M (pc + len) L (vI (sch j (ix x)) :: S) h Q := by
  haveI : Decidable (inb x (slen j)) := inferInstanceAs (Decidable (¬ _))
  refine X_if hi rfl rfl ?_ rfl rfl
  simp only [heapI, balI]
  rw [show aLen h (9, j) = some (slen j) from rfl]
  simp only
  by_cases q : x < 0 ∨ slen j ≤ x.toNatClampNeg
  · rw [if_pos q, if_neg (show ¬ inb x _ from fun z => z q)]
  · rw [if_neg q, if_pos (show inb x _ from q)]; rfl
theorem X_iald10 {x : Int32} (hi : ins M pc = some (.iaload, len)) : X d M pc L (vI x :: vR (10, 0) :: S) h Q ↔ inb x (scL h) ∧ X d M (pc + len) L (vI (scX h (ix x)) :: S) h Q := by
  haveI : Decidable (inb x (scL h)) := inferInstanceAs (Decidable (¬ _))
  refine X_if hi rfl rfl ?_ rfl rfl
  simp only [heapI, ialI]
  rw [show aLen h (10, 0) = some (scL h) from rfl]
  simp only
  by_cases q : x < 0 ∨ scL h ≤ x.toNatClampNeg
  · rw [if_pos q, if_neg (show ¬ inb x _ from fun z => z q)]
  · rw [if_neg q, if_pos (show inb x _ from q)]; rfl
theorem X_iald11 {x : Int32} (hi : ins M pc = some (.iaload, len)) : X d M pc L (vI x :: vR (11, 0) :: S) h Q ↔ inb x 4 ∧ X d M (pc + len) L (vI (mostC.getD (ix x) 0) :: S) h Q := by
  haveI : Decidable (inb x 4) := inferInstanceAs (Decidable (¬ _))
  refine X_if hi rfl rfl ?_ rfl rfl
  simp only [heapI, ialI]
  rw [show aLen h (11, 0) = some 4 from rfl]
  simp only
  by_cases q : x < 0 ∨ 4 ≤ x.toNatClampNeg
  · rw [if_pos q, if_neg (show ¬ inb x _ from fun z => z q)]
  · rw [if_neg q, if_pos (show inb x _ from q)]; rfl
theorem okix_iff {p : Pn} {so : Nat} {x : Int32} : okix p so x = true ↔ 1048576 ≤ p.1 ∧ p.1 % 16 = so ∧ inb x (klen p.1) := by
  unfold okix inb
  rw [decide_eq_true_eq]
theorem X_lald {N j : Nat} {x : Int32} (hi : ins M pc = some (.laload, len)) (hN : klen K = N) (hk : 1048576 ≤ K ∧ K % 16 = 4) : X d M pc L (vI x :: vR (K, j) :: S) h Q ↔ inb x N ∧ X d M (pc + len) L (vL (gL h K j (ix x)) :: S) h Q := by
  have e : (okix (K, j) 4 x = true) = inb x N := by rw [okix_iff, ← hN]; simp [hk]
  rw [← e]
  exact X_if hi rfl rfl rfl rfl rfl
theorem X_lpld {p : Pn} {x : Int32} (hi : ins M pc = some (.laload, len)) : X d M pc L (vI x :: vR p :: S) h Q ↔ okix p 4 x = true ∧ X d M (pc + len) L (vL (gL h p.1 p.2 (ix x)) :: S) h Q :=
  X_if hi rfl rfl rfl rfl rfl
theorem X_aald {N j : Nat} {x : Int32} (hi : ins M pc = some (.aaload, len)) (hN : klen K = N) (hk : 1048576 ≤ K ∧ K % 16 = 5) : X d M pc L (vI x :: vR (K, j) :: S) h Q ↔ inb x N ∧ X d M (pc + len) L (vR (gR h K j (ix x)) :: S) h Q := by
  have e : (okix (K, j) 5 x = true) = inb x N := by rw [okix_iff, ← hN]; simp [hk]
  rw [← e]
  exact X_if hi rfl rfl rfl rfl rfl
theorem inb_lt {x : Int32} {N : Nat} (h : inb x N) : ix x < N := Nat.not_le.mp fun q => h (Or.inr q)
theorem X_aldS {N j : Nat} {x : Int32} {q : Pn} (hi : ins M pc = some (.aaload, len)) (hN : klen K = N) (hk : 1048576 ≤ K ∧ K % 16 = 5) (hq : ix x < N → gR h K j (ix x) = q) : X d M pc L (vI x :: vR (K, j) :: S) h Q ↔ inb x N ∧ X d M (pc + len) L (vR q :: S) h Q := by
  refine (X_aald hi hN hk).trans ⟨fun z => ⟨z.1, ?_⟩, fun z => ⟨z.1, ?_⟩⟩
  · rw [← hq (inb_lt z.1)]; exact z.2
  · rw [hq (inb_lt z.1)]; exact z.2
theorem X_iast {N j : Nat} {x y : Int32} (hi : ins M pc = some (.iastore, len)) (hN : klen K = N) (hk : 1048576 ≤ K ∧ K % 16 = 1) : X d M pc L (vI y :: vI x :: vR (K, j) :: S) h Q ↔ inb x N ∧ X d M (pc + len) L S (sI h K j (ix x) y) Q := by
  have e : (okix (K, j) 1 x = true) = inb x N := by rw [okix_iff, ← hN]; simp [hk]
  rw [← e]
  exact X_if hi rfl rfl rfl rfl rfl
theorem X_last {N j : Nat} {x : Int32} {y : Int64} (hi : ins M pc = some (.lastore, len)) (hN : klen K = N) (hk : 1048576 ≤ K ∧ K % 16 = 4) : X d M pc L (vL y :: vI x :: vR (K, j) :: S) h Q ↔ inb x N ∧ X d M (pc + len) L S (sL h K j (ix x) y) Q := by
  have e : (okix (K, j) 4 x = true) = inb x N := by rw [okix_iff, ← hN]; simp [hk]
  rw [← e]
  exact X_if hi rfl rfl rfl rfl rfl
theorem X_lpst {p : Pn} {x : Int32} {y : Int64} (hi : ins M pc = some (.lastore, len)) : X d M pc L (vL y :: vI x :: vR p :: S) h Q ↔ okix p 4 x = true ∧ X d M (pc + len) L S (sL h p.1 p.2 (ix x) y) Q :=
  X_if hi rfl rfl rfl rfl rfl
theorem X_bast {N j : Nat} {x y : Int32} (hi : ins M pc = some (.bastore, len)) (hN : klen K = N) (hk : 1048576 ≤ K ∧ K % 16 = 2) : X d M pc L (vI y :: vI x :: vR (K, j) :: S) h Q ↔ (inb x N ∧ y.toInt8.toInt32 = y) ∧ X d M (pc + len) L S (sI h K j (ix x) y) Q := by
  have e : (okix (K, j) 2 x = true) = inb x N := by rw [okix_iff, ← hN]; simp [hk]
  have e3 : ¬ (okix (K, j) 3 x = true ∧ (y = 0 ∨ y = 1)) := by rw [okix_iff]; intro z; have := z.1.2.1; simp only at this; omega
  rw [← e]
  refine X_if hi rfl rfl ?_ rfl rfl
  simp only [heapI]
  rw [if_neg e3]; rfl
theorem X_zast {N j : Nat} {x y : Int32} (hi : ins M pc = some (.bastore, len)) (hN : klen K = N) (hk : 1048576 ≤ K ∧ K % 16 = 3) : X d M pc L (vI y :: vI x :: vR (K, j) :: S) h Q ↔ (inb x N ∧ (y = 0 ∨ y = 1)) ∧ X d M (pc + len) L S (sI h K j (ix x) y) Q := by
  have e : (okix (K, j) 3 x = true) = inb x N := by rw [okix_iff, ← hN]; simp [hk]
  have e3 : ¬ (okix (K, j) 2 x = true ∧ y.toInt8.toInt32 = y) := by rw [okix_iff]; intro z; have := z.1.2.1; simp only at this; omega
  rw [← e]
  refine X_if hi rfl rfl ?_ rfl rfl
  simp only [heapI]
  rw [if_neg e3]; rfl
theorem X_aast {N j : Nat} {x : Int32} {q : Pn} (hi : ins M pc = some (.aastore, len)) (hN : klen K = N) (hk : 1048576 ≤ K ∧ K % 16 = 5) (he : elob K = true) : X d M pc L (vR q :: vI x :: vR (K, j) :: S) h Q ↔ (inb x N ∧ (q.1 = 0 ∨ elok K q.1 = true)) ∧ X d M (pc + len) L S (sR h K j (ix x) q) Q := by
  have e : (okix (K, j) 5 x = true) = inb x N := by rw [okix_iff, ← hN]; simp [hk]
  rw [← e]
  refine X_if hi rfl rfl ?_ rfl rfl
  simp only [heapI, he, and_true]
  rfl
-- jumps
theorem X_go {off : Int} {t : Nat} (hi : ins M pc = some (.goto off, len)) (ht : tg pc off = some t) : X d M pc L S h Q ↔ X d M t L S h Q :=
  X_jmp hi rfl (by simp only [jmpI, ht])
theorem X_br {c : Prop} [Decidable c] {a b : Nat} (hi : ins M pc = some (i, len)) (hp : pureI i L S = none) (hj : jmpI i pc S = some (if c then a else b, S')) : X d M pc L S h Q ↔ if c then X d M a L S' h Q else X d M b L S' h Q :=
  (X_jmp hi hp hj).trans X_ite
theorem ite_dec {α : Type} {c : Prop} [Decidable c] {a b : α} : (if decide c = true then a else b) = if c then a else b := by simp
theorem ite_sw {c c' : Prop} [Decidable c] [Decidable c'] {a b : Prop} (hc : c' ↔ ¬ c) : (if c then a else b) ↔ if c' then b else a := by
  by_cases q : c
  · rw [if_pos q, if_neg (fun z => hc.mp z q)]
  · rw [if_neg q, if_pos (hc.mpr q)]
section BR
variable {x y : Int32} {off : Int} {t : Nat}
theorem X_if_eq (hi : ins M pc = some (.ifCond .eq off, len)) (ht : tg pc off = some t) : X d M pc L (vI x :: S) h Q ↔ if x = 0 then X d M t L S h Q else X d M (pc + 3) L S h Q :=
  X_br hi rfl (by simp only [jmpI, ht, cmp0, decide_eq_true_eq])
theorem X_if_ne (hi : ins M pc = some (.ifCond .ne off, len)) (ht : tg pc off = some t) : X d M pc L (vI x :: S) h Q ↔ if x = 0 then X d M (pc + 3) L S h Q else X d M t L S h Q :=
  (X_br (c := ¬ x = 0) hi rfl (by simp only [jmpI, ht, cmp0, decide_eq_true_eq])).trans (ite_sw (by simp))
theorem X_if_lt (hi : ins M pc = some (.ifCond .lt off, len)) (ht : tg pc off = some t) : X d M pc L (vI x :: S) h Q ↔ if x < 0 then X d M t L S h Q else X d M (pc + 3) L S h Q :=
  X_br hi rfl (by simp only [jmpI, ht, cmp0, decide_eq_true_eq])
theorem X_if_ge (hi : ins M pc = some (.ifCond .ge off, len)) (ht : tg pc off = some t) : X d M pc L (vI x :: S) h Q ↔ if x < 0 then X d M (pc + 3) L S h Q else X d M t L S h Q :=
  (X_br (c := 0 ≤ x) hi rfl (by simp only [jmpI, ht, cmp0, decide_eq_true_eq])).trans (ite_sw (by simp))
theorem X_if_gt (hi : ins M pc = some (.ifCond .gt off, len)) (ht : tg pc off = some t) : X d M pc L (vI x :: S) h Q ↔ if 0 < x then X d M t L S h Q else X d M (pc + 3) L S h Q :=
  X_br hi rfl (by simp only [jmpI, ht, cmp0, decide_eq_true_eq])
theorem X_if_le (hi : ins M pc = some (.ifCond .le off, len)) (ht : tg pc off = some t) : X d M pc L (vI x :: S) h Q ↔ if 0 < x then X d M (pc + 3) L S h Q else X d M t L S h Q :=
  (X_br (c := x ≤ 0) hi rfl (by simp only [jmpI, ht, cmp0, decide_eq_true_eq])).trans (ite_sw (by simp))
theorem X_ic_eq (hi : ins M pc = some (.if_icmp .eq off, len)) (ht : tg pc off = some t) : X d M pc L (vI y :: vI x :: S) h Q ↔ if x = y then X d M t L S h Q else X d M (pc + 3) L S h Q :=
  X_br hi rfl (by simp only [jmpI, ht, cmpI, decide_eq_true_eq])
theorem X_ic_ne (hi : ins M pc = some (.if_icmp .ne off, len)) (ht : tg pc off = some t) : X d M pc L (vI y :: vI x :: S) h Q ↔ if x = y then X d M (pc + 3) L S h Q else X d M t L S h Q :=
  (X_br (c := ¬ x = y) hi rfl (by simp only [jmpI, ht, cmpI, decide_eq_true_eq])).trans (ite_sw (by simp))
theorem X_ic_lt (hi : ins M pc = some (.if_icmp .lt off, len)) (ht : tg pc off = some t) : X d M pc L (vI y :: vI x :: S) h Q ↔ if x < y then X d M t L S h Q else X d M (pc + 3) L S h Q :=
  X_br hi rfl (by simp only [jmpI, ht, cmpI, decide_eq_true_eq])
theorem X_ic_ge (hi : ins M pc = some (.if_icmp .ge off, len)) (ht : tg pc off = some t) : X d M pc L (vI y :: vI x :: S) h Q ↔ if x < y then X d M (pc + 3) L S h Q else X d M t L S h Q :=
  (X_br (c := y ≤ x) hi rfl (by simp only [jmpI, ht, cmpI, decide_eq_true_eq])).trans (ite_sw (by simp))
theorem X_ic_gt (hi : ins M pc = some (.if_icmp .gt off, len)) (ht : tg pc off = some t) : X d M pc L (vI y :: vI x :: S) h Q ↔ if y < x then X d M t L S h Q else X d M (pc + 3) L S h Q :=
  X_br hi rfl (by simp only [jmpI, ht, cmpI, decide_eq_true_eq])
theorem X_ic_le (hi : ins M pc = some (.if_icmp .le off, len)) (ht : tg pc off = some t) : X d M pc L (vI y :: vI x :: S) h Q ↔ if y < x then X d M (pc + 3) L S h Q else X d M t L S h Q :=
  (X_br (c := x ≤ y) hi rfl (by simp only [jmpI, ht, cmpI, decide_eq_true_eq])).trans (ite_sw (by simp))
end BR
theorem lgc_lt (x y : Int64) : lg_cmp x y < 0 ↔ x < y := by
  have e : x < y ↔ x.toInt < y.toInt := Int64.lt_iff_toInt_lt
  unfold lg_cmp
  by_cases h1 : x > y
  · rw [if_pos h1]
    have h1' : y.toInt < x.toInt := Int64.lt_iff_toInt_lt.mp h1
    exact ⟨fun h => absurd h (by decide), fun h => by rw [e] at h; omega⟩
  · rw [if_neg h1]
    have h1' : ¬ y.toInt < x.toInt := fun h => h1 (Int64.lt_iff_toInt_lt.mpr h)
    by_cases h2 : x = y
    · rw [if_pos h2]
      exact ⟨fun h => absurd h (by decide), fun h => by rw [e, h2] at h; omega⟩
    · rw [if_neg h2]
      have h3 : x.toInt ≠ y.toInt := fun h => h2 (Int64.toInt_inj.mp h)
      exact ⟨fun _ => e.mpr (by omega), fun _ => by decide⟩
theorem lgc_eq (x y : Int64) : lg_cmp x y = 0 ↔ x = y := by
  unfold lg_cmp
  by_cases h1 : x > y
  · rw [if_pos h1]
    have h1' : y.toInt < x.toInt := Int64.lt_iff_toInt_lt.mp h1
    exact ⟨fun h => absurd h (by decide), fun h => by rw [h] at h1'; omega⟩
  · rw [if_neg h1]
    by_cases h2 : x = y
    · rw [if_pos h2]
      exact ⟨fun _ => h2, fun _ => rfl⟩
    · rw [if_neg h2]
      exact ⟨fun h => absurd h (by decide), fun h => absurd h h2⟩
theorem lgc_gt (x y : Int64) : 0 < lg_cmp x y ↔ y < x := by
  unfold lg_cmp
  by_cases h1 : x > y
  · rw [if_pos h1]
    exact ⟨fun _ => h1, fun _ => by decide⟩
  · rw [if_neg h1]
    by_cases h2 : x = y
    · rw [if_pos h2]
      exact ⟨fun h => absurd h (by decide), fun h => absurd h h1⟩
    · rw [if_neg h2]
      exact ⟨fun h => absurd h (by decide), fun h => absurd h h1⟩
theorem ite_iff {c c' : Prop} [Decidable c] [Decidable c'] {a b : Prop} (hc : c ↔ c') : (if c then a else b) ↔ if c' then a else b := by
  by_cases q : c
  · rw [if_pos q, if_pos (hc.mp q)]
  · rw [if_neg q, if_neg (fun z => q (hc.mpr z))]
section BRL
variable {x y : Int64} {off : Int} {t len2 : Nat}
theorem X_lc_lt (h1 : ins M pc = some (.lcmp, 1)) (hi : ins M (pc + 1) = some (.ifCond .lt off, len)) (ht : tg (pc + 1) off = some t) : X d M pc L (vL y :: vL x :: S) h Q ↔ if x < y then X d M t L S h Q else X d M (pc + 1 + 3) L S h Q :=
  (X_pure h1 rfl).trans ((X_if_lt hi ht).trans (ite_iff (lgc_lt x y)))
theorem X_lc_ge (h1 : ins M pc = some (.lcmp, 1)) (hi : ins M (pc + 1) = some (.ifCond .ge off, len)) (ht : tg (pc + 1) off = some t) : X d M pc L (vL y :: vL x :: S) h Q ↔ if x < y then X d M (pc + 1 + 3) L S h Q else X d M t L S h Q :=
  (X_pure h1 rfl).trans ((X_if_ge hi ht).trans (ite_iff (lgc_lt x y)))
theorem X_lc_eq (h1 : ins M pc = some (.lcmp, 1)) (hi : ins M (pc + 1) = some (.ifCond .eq off, len)) (ht : tg (pc + 1) off = some t) : X d M pc L (vL y :: vL x :: S) h Q ↔ if x = y then X d M t L S h Q else X d M (pc + 1 + 3) L S h Q :=
  (X_pure h1 rfl).trans ((X_if_eq hi ht).trans (ite_iff (lgc_eq x y)))
theorem X_lc_ne (h1 : ins M pc = some (.lcmp, 1)) (hi : ins M (pc + 1) = some (.ifCond .ne off, len)) (ht : tg (pc + 1) off = some t) : X d M pc L (vL y :: vL x :: S) h Q ↔ if x = y then X d M (pc + 1 + 3) L S h Q else X d M t L S h Q :=
  (X_pure h1 rfl).trans ((X_if_ne hi ht).trans (ite_iff (lgc_eq x y)))
theorem X_lc_gt (h1 : ins M pc = some (.lcmp, 1)) (hi : ins M (pc + 1) = some (.ifCond .gt off, len)) (ht : tg (pc + 1) off = some t) : X d M pc L (vL y :: vL x :: S) h Q ↔ if y < x then X d M t L S h Q else X d M (pc + 1 + 3) L S h Q :=
  (X_pure h1 rfl).trans ((X_if_gt hi ht).trans (ite_iff (lgc_gt x y)))
theorem X_lc_le (h1 : ins M pc = some (.lcmp, 1)) (hi : ins M (pc + 1) = some (.ifCond .le off, len)) (ht : tg (pc + 1) off = some t) : X d M pc L (vL y :: vL x :: S) h Q ↔ if y < x then X d M (pc + 1 + 3) L S h Q else X d M t L S h Q :=
  (X_pure h1 rfl).trans ((X_if_le hi ht).trans (ite_iff (lgc_gt x y)))
end BRL
section NUL
variable {p : Pn} {off : Int} {t : Nat}
theorem X_nul (hi : ins M pc = some (.ifnull off, len)) (ht : tg pc off = some t) : X d M pc L (vR p :: S) h Q ↔ ¬ p.1 = 7 ∧ if p.1 = 0 then X d M t L S h Q else X d M (pc + 3) L S h Q := by
  by_cases q : p.1 = 7
  · refine (X_none hi rfl ?_ rfl rfl rfl).trans ⟨False.elim, fun z => absurd q z.1⟩
    simp only [jmpI, ht, q, if_true]
  · refine Iff.trans (X_br (c := p.1 = 0) hi rfl (by simp only [jmpI, ht, q, if_false])) ⟨fun z => ⟨q, z⟩, fun z => z.2⟩
theorem X_nnl (hi : ins M pc = some (.ifnonnull off, len)) (ht : tg pc off = some t) : X d M pc L (vR p :: S) h Q ↔ ¬ p.1 = 7 ∧ if p.1 = 0 then X d M (pc + 3) L S h Q else X d M t L S h Q := by
  by_cases q : p.1 = 7
  · refine (X_none hi rfl ?_ rfl rfl rfl).trans ⟨False.elim, fun z => absurd q z.1⟩
    simp only [jmpI, ht, q, if_true]
  · refine Iff.trans (X_br (c := p.1 = 0) hi rfl (by simp only [jmpI, ht, q, if_false])) ⟨fun z => ⟨q, z⟩, fun z => z.2⟩
end NUL
/-- a table of targets -/
def tsw (lo : Int) (ts : List Nat) (df : Nat) (x : Int32) : Nat := if x.toInt < lo then df else ts.getD (x.toInt - lo).toNat df
theorem X_tsw {x : Int32} {df lo hi0 : Int} {offs : Array Int} {ts : List Nat} {tdf : Nat} (hi : ins M pc = some (.tableswitch df lo hi0 offs, len)) (hd : tg pc df = some tdf) (hsz : (ts.length : Int) = hi0 - lo + 1) (hts : offs.toList.map (tg pc) = ts.map some) : X d M pc L (vI x :: S) h Q ↔ X d M (tsw lo ts tdf x) L S h Q := by
  refine X_jmp hi rfl ?_
  simp only [jmpI]
  unfold tsw
  by_cases h1 : x.toInt < lo
  · rw [if_pos (Or.inl h1), if_pos h1, hd]
  · rw [if_neg h1]
    by_cases h2 : hi0 < x.toInt
    · rw [if_pos (Or.inr h2), hd]
      have : ts.getD (x.toInt - lo).toNat tdf = tdf := by
        rw [List.getD_eq_getElem?_getD, List.getElem?_eq_none (by omega)]
        rfl
      rw [this]
    · rw [if_neg (by omega)]
      have hlt : (x.toInt - lo).toNat < ts.length := by omega
      have hl2 : offs.toList.length = ts.length := by
        have := congrArg List.length hts
        simpa using this
      have hlt2 : (x.toInt - lo).toNat < offs.toList.length := by omega
      have e1 : offs[(x.toInt - lo).toNat]? = some (offs.toList[(x.toInt - lo).toNat]'hlt2) := by
        rw [← Array.getElem?_toList, List.getElem?_eq_getElem hlt2]
      have e2 : tg pc (offs.toList[(x.toInt - lo).toNat]'hlt2) = some (ts[(x.toInt - lo).toNat]'hlt) := by
        have := congrArg (fun l => l[(x.toInt - lo).toNat]?) hts
        simp only [List.getElem?_map, List.getElem?_eq_getElem hlt2, List.getElem?_eq_getElem hlt, Option.map_some] at this
        exact Option.some.inj this
      rw [e1]
      simp only [e2]
      rw [List.getD_eq_getElem?_getD, List.getElem?_eq_getElem hlt]
      rfl
-- calls
theorem X_cl {M' : Nat} {as : List V} (hd : 1 ≤ d) (hi : ins M pc = some (i, len)) (hp : pureI i L S = none) (hj : jmpI i pc S = none) (hh : heapI M pc i S h = none) (hc : cllI M i S = some (M', as, S')) (hl : (spread as).length ≤ mloc M' ∧ argOK as = true) : X d M pc L S h Q ↔ Ev (d - 1) M' as h (XB d M pc len L S' Q) := by
  obtain ⟨d', rfl⟩ : ∃ d', d = d' + 1 := ⟨d - 1, by omega⟩
  exact X_call hi hp hj hh hc hl
theorem hs_none {rk : Nat} (hv : inv M idx = some (k, n, 0, rk)) : heapI M pc (.invokestatic idx) S h = none := by
  simp only [heapI]
  split
  · rename_i e
    rw [hv] at e
    cases e
  · rfl
theorem hi_none {rk : Nat} (hv : inv M idx = some (k, n, 2, rk)) : heapI M pc (.invokespecial idx) S h = none := by
  simp only [heapI]
  split
  · rename_i e
    rw [hv] at e
    cases e
  · rfl
theorem X_cs {M' rk : Nat} {as : List V} (hd : 1 ≤ d) (hi : ins M pc = some (.invokestatic idx, len)) (hv : inv M idx = some (M', n, 0, rk)) (hc : (if n ≤ S.length ∧ (S.drop n).length ≤ 10 then some (M', (S.take n).reverse, S.drop n) else none) = some (M', as, S')) (hl : Nat.ble (spread as).length (mloc M') = true ∧ argOK as = true) : X d M pc L S h Q ↔ Ev (d - 1) M' as h (XB d M pc len L S' Q) :=
  X_cl hd hi rfl rfl (hs_none hv) (by simp only [cllI, hv]; exact hc) ⟨Nat.le_of_ble_eq_true hl.1, hl.2⟩
theorem X_ci {M' rk : Nat} {p : Pn} {as : List V} (hd : 1 ≤ d) (hi : ins M pc = some (.invokespecial idx, len)) (hv : inv M idx = some (M', n, 2, rk)) (hc : S.drop n = vR p :: S') (hk : 1048576 ≤ p.1) (h10 : Nat.ble S'.length 10 = true) (ha : vR p :: (S.take n).reverse = as) (hl : Nat.ble (spread as).length (mloc M') = true ∧ argOK as = true) : X d M pc L S h Q ↔ Ev (d - 1) M' as h (XB d M pc len L S' Q) :=
  X_cl hd hi rfl rfl (hi_none hv) (by simp only [cllI, hv, hc]; rw [if_pos ⟨hk, Nat.le_of_ble_eq_true h10⟩, ha]) ⟨Nat.le_of_ble_eq_true hl.1, hl.2⟩
theorem X_cv {M' rk : Nat} {j : Nat} {as : List V} (hd : 1 ≤ d) (hi : ins M pc = some (.invokevirtual idx, len)) (hv : inv M idx = some (M', n, 1, rk)) (hc : S.drop n = vR (rk, j) :: S') (h10 : Nat.ble S'.length 10 = true) (ha : vR (rk, j) :: (S.take n).reverse = as) (hl : Nat.ble (spread as).length (mloc M') = true ∧ argOK as = true) : X d M pc L S h Q ↔ Ev (d - 1) M' as h (XB d M pc len L S' Q) :=
  X_cl hd hi rfl rfl rfl (by simp only [cllI, hv, hc]; rw [if_pos ⟨trivial, Nat.le_of_ble_eq_true h10⟩, ha]) ⟨Nat.le_of_ble_eq_true hl.1, hl.2⟩
theorem X_cp {M' rk : Nat} {p : Pn} {as : List V} (hd : 1 ≤ d) (hi : ins M pc = some (.invokevirtual idx, len)) (hv : inv M idx = some (M', n, 1, rk)) (hc : S.drop n = vR p :: S') (h10 : Nat.ble S'.length 10 = true) (ha : vR p :: (S.take n).reverse = as) (hl : Nat.ble (spread as).length (mloc M') = true ∧ argOK as = true) : X d M pc L S h Q ↔ p.1 = rk ∧ Ev (d - 1) M' as h (XB d M pc len L S' Q) := by
  by_cases q : p.1 = rk
  · refine Iff.trans (X_cl hd hi rfl rfl rfl ?_ ⟨Nat.le_of_ble_eq_true hl.1, hl.2⟩) ⟨fun z => ⟨q, z⟩, fun z => z.2⟩
    simp only [cllI, hv, hc]
    rw [if_pos ⟨q, Nat.le_of_ble_eq_true h10⟩, ha]
  · refine Iff.trans (X_none hi rfl rfl rfl ?_ rfl) ⟨False.elim, fun z => absurd z.1 q⟩
    simp only [cllI, hv, hc]
    rw [if_neg (fun z => q z.1)]
theorem X_ca {a M' rk : Nat} {p : Pn} {as : List V} (hd : 1 ≤ d) (hi : ins M pc = some (.invokevirtual idx, len)) (hv : inv M idx = some (a, n, 3, rk)) (hab : absm a p.1 = some M') (hc : S.drop n = vR p :: S') (h10 : Nat.ble S'.length 10 = true) (ha : vR p :: (S.take n).reverse = as) (hl : (spread as).length ≤ mloc M' ∧ argOK as = true) : X d M pc L S h Q ↔ Ev (d - 1) M' as h (XB d M pc len L S' Q) :=
  X_cl hd hi rfl rfl rfl (by simp only [cllI, hv, hc, hab]; rw [if_pos (Nat.le_of_ble_eq_true h10), ha]) hl
theorem X_oi {p : Pn} {a b : Nat} (hi : ins M pc = some (.invokespecial idx, len)) (hv : inv M idx = some (a, n, 4, b)) (hk : 1048576 ≤ p.1) (h10 : Nat.ble S.length 10 = true) : X d M pc L (vR p :: S) h Q ↔ X d M (pc + len) L S h Q :=
  X_heap hi rfl rfl (by simp only [heapI, hv]; rw [if_pos ⟨hk, Nat.le_of_ble_eq_true h10⟩])
theorem X_cpy {K2 j2 N N2 a0 b0 : Nat} {a b m : Int32} (hi : ins M pc = some (.invokestatic idx, len)) (hv : inv M idx = some (a0, n, 5, b0)) (hN : klen K = N) (hN2 : klen K2 = N2) (hk : (1048576 ≤ K ∧ K % 16 = 1) ∧ 1048576 ≤ K2 ∧ K2 % 16 = 1 ∧ K ≠ K2) (h10 : Nat.ble S.length 10 = true) :
    X d M pc L (vI m :: vI b :: vR (K2, j2) :: vI a :: vR (K, j) :: S) h Q ↔ (0 ≤ a ∧ 0 ≤ b ∧ 0 ≤ m ∧ ix a + ix m ≤ N ∧ ix b + ix m ≤ N2) ∧ X d M (pc + len) L S (cpI h K j (ix a) K2 j2 (ix b) (ix m)) Q := by
  refine X_if hi rfl rfl ?_ (by simp only [cllI, hv]) rfl
  simp only [heapI, hv]
  have e : (1048576 ≤ K ∧ K % 16 = 1 ∧ 1048576 ≤ K2 ∧ K2 % 16 = 1 ∧ ((K, j) : Pn) ≠ (K2, j2) ∧ S.length ≤ 10 ∧ 0 ≤ a ∧ 0 ≤ b ∧ 0 ≤ m ∧ a.toNatClampNeg + m.toNatClampNeg ≤ klen K ∧ b.toNatClampNeg + m.toNatClampNeg ≤ klen K2) ↔ (0 ≤ a ∧ 0 ≤ b ∧ 0 ≤ m ∧ ix a + ix m ≤ N ∧ ix b + ix m ≤ N2) := by
    rw [hN, hN2]
    constructor
    · rintro ⟨-, -, -, -, -, -, z⟩
      exact z
    · intro z
      exact ⟨hk.1.1, hk.1.2, hk.2.1, hk.2.2.1, fun y => hk.2.2.2 (congrArg Prod.fst y), Nat.le_of_ble_eq_true h10, z⟩
  by_cases q : (0 ≤ a ∧ 0 ≤ b ∧ 0 ≤ m ∧ ix a + ix m ≤ N ∧ ix b + ix m ≤ N2)
  · rw [if_pos (e.mpr q), if_pos q]; rfl
  · rw [if_neg (fun z => q (e.mp z)), if_neg q]
-- ends
theorem X_rv (hi : ins M pc = some (.return_, len)) (hm : mret M = 0) : X d M pc L [] h Q ↔ Q (.inl [], h) :=
  X_end hi rfl rfl rfl rfl (by simp only [endI, hm, if_true])
theorem X_ri {x : Int32} (hi : ins M pc = some (.ireturn, len)) (hm : mret M = 1) : X d M pc L [vI x] h Q ↔ Q (.inl [vI x], h) :=
  X_end hi rfl rfl rfl rfl (by simp only [endI, hm, true_or, if_true])
theorem X_rz {x : Int32} (hi : ins M pc = some (.ireturn, len)) (hm : mret M = 2) : X d M pc L [vI x] h Q ↔ (x = 0 ∨ x = 1) ∧ Q (.inl [vI x], h) :=
  X_ret hi rfl rfl rfl rfl (by simp only [endI, hm]; simp)
theorem X_rb {x : Int32} (hi : ins M pc = some (.ireturn, len)) (hm : mret M = 3) : X d M pc L [vI x] h Q ↔ x.toInt8.toInt32 = x ∧ Q (.inl [vI x], h) :=
  X_ret hi rfl rfl rfl rfl (by simp only [endI, hm]; simp)
theorem X_rc {x : Int32} (hi : ins M pc = some (.ireturn, len)) (hm : mret M = 4) : X d M pc L [vI x] h Q ↔ (x.toUInt32 % 65536).toInt32 = x ∧ Q (.inl [vI x], h) :=
  X_ret hi rfl rfl rfl rfl (by simp only [endI, hm]; simp)
theorem X_rl {x : Int64} (hi : ins M pc = some (.lreturn, len)) (hm : mret M = 5) : X d M pc L [vL x] h Q ↔ Q (.inl [vL x], h) :=
  X_end hi rfl rfl rfl rfl (by simp only [endI, hm, if_true])
theorem X_ra {p : Pn} (hi : ins M pc = some (.areturn, len)) (hm : mret M = 6) : X d M pc L [vR p] h Q ↔ Q (.inl [vR p], h) :=
  X_end hi rfl rfl rfl rfl (by simp only [endI, hm, if_true])
theorem X_th {j : Nat} (hi : ins M pc = some (.athrow, len)) (hm : hdl M pc = none) : X d M pc L (vR (2097174, j) :: S) h Q ↔ Q (.inr (2097174, j), h) :=
  X_end hi rfl rfl rfl rfl (by simp only [endI, hm, and_self, if_true])
-- numbers
theorem X_icI {m : Int} {x : Int32} (hi : ins M pc = some (.iconst m, len)) (hx : Int32.ofInt m = x) : X d M pc L S h Q ↔ X d M (pc + len) L (vI x :: S) h Q := X_pure hi (by rw [← hx]; rfl)
theorem X_icB {m : Int} {x : Int32} (hi : ins M pc = some (.bipush m, len)) (hx : (Int8.ofInt m).toInt32 = x) : X d M pc L S h Q ↔ X d M (pc + len) L (vI x :: S) h Q := X_pure hi (by rw [← hx]; rfl)
theorem X_icS {m : Int} {x : Int32} (hi : ins M pc = some (.sipush m, len)) (hx : (Int16.ofInt m).toInt32 = x) : X d M pc L S h Q ↔ X d M (pc + len) L (vI x :: S) h Q := X_pure hi (by rw [← hx]; rfl)
theorem X_inc {m : Int} {c x : Int32} {L' : List V} (hi : ins M pc = some (.iinc k m, len)) (hl : L[k]? = some (vI x)) (hx : Int32.ofInt m = c) (hs : st1 L k (vI (x + c)) = L') : X d M pc L S h Q ↔ X d M (pc + len) L' S h Q := X_pure hi (by rw [← hs, ← hx]; simp only [pureI, hl])
theorem X_idv {x y : Int32} (hi : ins M pc = some (.idiv, len)) (hy : ¬ y = 0) : X d M pc L (vI y :: vI x :: S) h Q ↔ X d M (pc + len) L (vI (x / y) :: S) h Q := X_pure hi (by simp only [pureI, divI, hy, if_false])
theorem X_irm {x y : Int32} (hi : ins M pc = some (.irem, len)) (hy : ¬ y = 0) : X d M pc L (vI y :: vI x :: S) h Q ↔ X d M (pc + len) L (vI (x - x / y * y) :: S) h Q := X_pure hi (by simp only [pureI, divI, hy, if_false])
theorem X_ldv {x y : Int64} (hi : ins M pc = some (.ldiv, len)) : X d M pc L (vL y :: vL x :: S) h Q ↔ ¬ y = 0 ∧ X d M (pc + len) L (vL (x / y) :: S) h Q := by
  by_cases q : y = 0
  · exact (X_none hi (by simp only [pureI, divL, q, if_true]) rfl rfl rfl rfl).trans ⟨False.elim, fun z => absurd q z.1⟩
  · exact (X_pure hi (by simp only [pureI, divL, q, if_false])).trans ⟨fun z => ⟨q, z⟩, fun z => z.2⟩
theorem X_lrm {x y : Int64} (hi : ins M pc = some (.lrem, len)) : X d M pc L (vL y :: vL x :: S) h Q ↔ ¬ y = 0 ∧ X d M (pc + len) L (vL (x - x / y * y) :: S) h Q := by
  by_cases q : y = 0
  · exact (X_none hi (by simp only [pureI, divL, q, if_true]) rfl rfl rfl rfl).trans ⟨False.elim, fun z => absurd q z.1⟩
  · exact (X_pure hi (by simp only [pureI, divL, q, if_false])).trans ⟨fun z => ⟨q, z⟩, fun z => z.2⟩
-- reads with their values known
theorem X_geI {x : Int32} (hi : ins M pc = some (.getfield idx, len)) (hf : fld M idx = some (K, k, 0)) (hx : gI h K j k = x) : X d M pc L (vR (K, j) :: S) h Q ↔ X d M (pc + len) L (vI x :: S) h Q := by rw [← hx]; exact X_getI hi hf
theorem X_geZ {x : Int32} (hi : ins M pc = some (.getfield idx, len)) (hf : fld M idx = some (K, k, 5)) (hx : gI h K j k = x) : X d M pc L (vR (K, j) :: S) h Q ↔ X d M (pc + len) L (vI x :: S) h Q := by rw [← hx]; exact X_getZ hi hf
theorem X_geL {x : Int64} (hi : ins M pc = some (.getfield idx, len)) (hf : fld M idx = some (K, k, 1)) (hx : gL h K j k = x) : X d M pc L (vR (K, j) :: S) h Q ↔ X d M (pc + len) L (vL x :: S) h Q := by rw [← hx]; exact X_getL hi hf
theorem ac {a b c : Prop} (h : b ↔ c) : a ∧ b ↔ a ∧ c := and_congr Iff.rfl h
theorem rI_K {K' j' k' : Nat} {v : Int32} (hK : Nat.beq K K' = false) : gI (sI h K' j' k' v) K j k = gI h K j k := by
  rw [gI_sI, if_neg]
  rintro ⟨e, -⟩
  rw [e, Nat.beq_refl] at hK
  cases hK
theorem rI_k {K' j' k' : Nat} {v : Int32} (hk : Nat.beq k k' = false) : gI (sI h K' j' k' v) K j k = gI h K j k := by
  rw [gI_sI, if_neg]
  rintro ⟨-, -, e⟩
  rw [e, Nat.beq_refl] at hk
  cases hk
theorem rI_s {v : Int32} : gI (sI h K j k v) K j k = v := by rw [gI_sI, if_pos ⟨rfl, rfl, rfl⟩]
theorem rI_a {K' n : Nat} (hK : Nat.beq K K' = false) : gI (al h K' n) K j k = gI h K j k := by
  rw [gI_al, if_neg]
  rintro ⟨e, -⟩
  rw [e, Nat.beq_refl] at hK
  cases hK
theorem rI_L {K' j' k' : Nat} {v : Int64} : gI (sL h K' j' k' v) K j k = gI h K j k := rfl
theorem rI_R {K' j' k' : Nat} {v : Pn} : gI (sR h K' j' k' v) K j k = gI h K j k := rfl
theorem rL_K {K' j' k' : Nat} {v : Int64} (hK : Nat.beq K K' = false) : gL (sL h K' j' k' v) K j k = gL h K j k := by
  rw [gL_sL, if_neg]
  rintro ⟨e, -⟩
  rw [e, Nat.beq_refl] at hK
  cases hK
theorem rL_k {K' j' k' : Nat} {v : Int64} (hk : Nat.beq k k' = false) : gL (sL h K' j' k' v) K j k = gL h K j k := by
  rw [gL_sL, if_neg]
  rintro ⟨-, -, e⟩
  rw [e, Nat.beq_refl] at hk
  cases hk
theorem rL_s {v : Int64} : gL (sL h K j k v) K j k = v := by rw [gL_sL, if_pos ⟨rfl, rfl, rfl⟩]
theorem rL_a {K' n : Nat} (hK : Nat.beq K K' = false) : gL (al h K' n) K j k = gL h K j k := by
  rw [gL_al, if_neg]
  rintro ⟨e, -⟩
  rw [e, Nat.beq_refl] at hK
  cases hK
theorem rL_I {K' j' k' : Nat} {v : Int32} : gL (sI h K' j' k' v) K j k = gL h K j k := rfl
theorem rL_R {K' j' k' : Nat} {v : Pn} : gL (sR h K' j' k' v) K j k = gL h K j k := rfl
theorem rR_K {K' j' k' : Nat} {v : Pn} (hK : Nat.beq K K' = false) : gR (sR h K' j' k' v) K j k = gR h K j k := by
  rw [gR_sR, if_neg]
  rintro ⟨e, -⟩
  rw [e, Nat.beq_refl] at hK
  cases hK
theorem rR_k {K' j' k' : Nat} {v : Pn} (hk : Nat.beq k k' = false) : gR (sR h K' j' k' v) K j k = gR h K j k := by
  rw [gR_sR, if_neg]
  rintro ⟨-, -, e⟩
  rw [e, Nat.beq_refl] at hk
  cases hk
theorem rR_s {v : Pn} : gR (sR h K j k v) K j k = v := by rw [gR_sR, if_pos ⟨rfl, rfl, rfl⟩]
theorem rR_a {K' n : Nat} (hK : Nat.beq K K' = false) : gR (al h K' n) K j k = gR h K j k := by
  rw [gR_al, if_neg]
  rintro ⟨e, -⟩
  rw [e, Nat.beq_refl] at hK
  cases hK
theorem rR_I {K' j' k' : Nat} {v : Int32} : gR (sI h K' j' k' v) K j k = gR h K j k := rfl
theorem rR_L {K' j' k' : Nat} {v : Int64} : gR (sL h K' j' k' v) K j k = gR h K j k := rfl
theorem rc_I {K' j' k' : Nat} {v : Int32} : cn (sI h K' j' k' v) K = cn h K := rfl
theorem rc_L {K' j' k' : Nat} {v : Int64} : cn (sL h K' j' k' v) K = cn h K := rfl
theorem rc_R {K' j' k' : Nat} {v : Pn} : cn (sR h K' j' k' v) K = cn h K := rfl
theorem rc_a {K' n : Nat} (hK : Nat.beq K K' = false) : cn (al h K' n) K = cn h K := by
  rw [cn_al, if_neg]
  intro e
  rw [e, Nat.beq_refl] at hK
  cases hK
theorem beq_ne {a b : Nat} (h : Nat.beq a b = false) : a ≠ b := by
  intro e
  rw [e, Nat.beq_refl] at h
  cases h
theorem rows_off {K1 j1 K2 n2 : Nat} {h0 : HS} (h2 : K ≠ K2) (h1 : K ≠ K1) : ∀ i, cn (rowsH K1 j1 K2 n2 h0 i) K = cn h0 K ∧ (∀ j k, gI (rowsH K1 j1 K2 n2 h0 i) K j k = gI h0 K j k) ∧ (∀ j k, gL (rowsH K1 j1 K2 n2 h0 i) K j k = gL h0 K j k) ∧ ∀ j k, gR (rowsH K1 j1 K2 n2 h0 i) K j k = gR h0 K j k := by
  intro i
  induction i with
  | zero => exact ⟨rfl, fun _ _ => rfl, fun _ _ => rfl, fun _ _ => rfl⟩
  | succ i ih =>
    obtain ⟨a, b, c, e⟩ := ih
    refine ⟨?_, fun j k => ?_, fun j k => ?_, fun j k => ?_⟩
    · show cn (al _ K2 n2) K = _
      rw [cn_al, if_neg h2]; exact a
    · show gI (al _ K2 n2) K j k = _
      rw [gI_al, if_neg (fun z => h2 z.1)]; exact b j k
    · show gL (al _ K2 n2) K j k = _
      rw [gL_al, if_neg (fun z => h2 z.1)]; exact c j k
    · show gR (sR _ K1 j1 i _) K j k = _
      rw [gR_sR, if_neg (fun z => h1 z.1), gR_al, if_neg (fun z => h2 z.1)]; exact e j k
theorem rc_m {K1 n1 K2 n2 : Nat} (h1 : Nat.beq K K1 = false) (h2 : Nat.beq K K2 = false) : cn (al2 h K1 n1 K2 n2) K = cn h K := by
  rw [al2_eq, (rows_off (beq_ne h2) (beq_ne h1) n1).1]; exact rc_a h1
theorem rI_m {K1 n1 K2 n2 : Nat} (h1 : Nat.beq K K1 = false) (h2 : Nat.beq K K2 = false) : gI (al2 h K1 n1 K2 n2) K j k = gI h K j k := by
  rw [al2_eq, (rows_off (beq_ne h2) (beq_ne h1) n1).2.1]; exact rI_a h1
theorem rL_m {K1 n1 K2 n2 : Nat} (h1 : Nat.beq K K1 = false) (h2 : Nat.beq K K2 = false) : gL (al2 h K1 n1 K2 n2) K j k = gL h K j k := by
  rw [al2_eq, (rows_off (beq_ne h2) (beq_ne h1) n1).2.2.1]; exact rL_a h1
theorem rR_m {K1 n1 K2 n2 : Nat} (h1 : Nat.beq K K1 = false) (h2 : Nat.beq K K2 = false) : gR (al2 h K1 n1 K2 n2) K j k = gR h K j k := by
  rw [al2_eq, (rows_off (beq_ne h2) (beq_ne h1) n1).2.2.2]; exact rR_a h1
theorem X_newc {n c : Nat} (hi : ins M pc = some (.new idx, len)) (hf : newk M idx = some (K, n)) (hc : cn h K = c) : X d M pc L S h Q ↔ (nc h + 1 ≤ NCL ∧ ns h + n ≤ NSL) ∧ X d M (pc + len) L (vR (K, c) :: S) (al h K n) Q := by rw [← hc]; exact X_new hi hf
theorem X_newac {ty : ArrayType} {N c : Nat} {x : Int32} (hi : ins M pc = some (.newarray ty, len)) (hf : site M pc = some K) (hN : klen K = N) (hx : x = nI N) (ht : atOf ty = K % 16) (hc : cn h K = c) : X d M pc L (vI x :: S) h Q ↔ (nc h + 1 ≤ NCL ∧ ns h + N ≤ NSL) ∧ X d M (pc + len) L (vR (K, c) :: S) (al h K N) Q := by rw [← hc]; exact X_newa hi hf hN hx ht
theorem X_anewc {N c : Nat} {x : Int32} (hi : ins M pc = some (.anewarray idx, len)) (hf : an M pc = some (idx, K)) (hN : klen K = N) (hx : x = nI N) (hc : cn h K = c) : X d M pc L (vI x :: S) h Q ↔ (nc h + 1 ≤ NCL ∧ ns h + N ≤ NSL) ∧ X d M (pc + len) L (vR (K, c) :: S) (al h K N) Q := by rw [← hc]; exact X_anew hi hf hN hx
theorem X_mul2c {K2 N N2 c : Nat} {x y : Int32} (hi : ins M pc = some (.multianewarray idx 2, len)) (hf : site2 M pc = some (idx, K, K2)) (hN : klen K = N) (hN2 : klen K2 = N2) (hx : x = nI N) (hy : y = nI N2) (hc : cn h K = c) : X d M pc L (vI y :: vI x :: S) h Q ↔ (nc h + 1 + N ≤ NCL ∧ ns h + N + N * N2 ≤ NSL) ∧ X d M (pc + len) L (vR (K, c) :: S) (al2 h K N K2 N2) Q := by rw [← hc]; exact X_mul2 hi hf hN hN2 hx hy
theorem X_gpS {p q : Pn} (hi : ins M pc = some (.getfield idx, len)) (hf : fld M idx = some (K, k, 2)) (hq : gR h K p.2 k = q) : X d M pc L (vR p :: S) h Q ↔ p.1 = K ∧ X d M (pc + len) L (vR q :: S) h Q := by rw [← hq]; exact X_gpR hi hf
/-- no half of a long -/
def nl (u : V) : Bool := match u with
  | .inr (.inl _) => false
  | .inr (.inr (.inr true)) => false
  | _ => true
theorem clr_nl {u : V} (hu : L[k]? = some u) (hn : nl u = true) : clr L k = L := by
  unfold clr
  rw [hu]
  rcases u with x | x | q | b
  · rfl
  · cases hn
  · rfl
  · cases b
    · rfl
    · cases hn
theorem X_soI {u : V} {x : Int32} {L' : List V} (hi : ins M pc = some (i, len)) (hp : pureI i L (vI x :: S) = soI L k (vI x :: S)) (hu : L[k]? = some u) (hn : nl u = true) (hs : L.set k (vI x) = L') : X d M pc L (vI x :: S) h Q ↔ X d M (pc + len) L' S h Q := by
  refine X_pure hi (hp.trans ?_)
  have hk : k < L.length := (List.getElem?_eq_some_iff.mp hu).1
  simp only [soI, hk, if_true, st1, clr_nl hu hn, hs]
theorem X_soR {u : V} {x : Pn} {L' : List V} (hi : ins M pc = some (i, len)) (hp : pureI i L (vR x :: S) = soR L k (vR x :: S)) (hu : L[k]? = some u) (hn : nl u = true) (hs : L.set k (vR x) = L') : X d M pc L (vR x :: S) h Q ↔ X d M (pc + len) L' S h Q := by
  refine X_pure hi (hp.trans ?_)
  have hk : k < L.length := (List.getElem?_eq_some_iff.mp hu).1
  simp only [soR, hk, if_true, st1, clr_nl hu hn, hs]
theorem X_soL {u w : V} {x : Int64} {L' : List V} (hi : ins M pc = some (i, len)) (hp : pureI i L (vL x :: S) = soL L k (vL x :: S)) (hu : L[k]? = some u) (hw : L[k + 1]? = some w) (hn : nl u = true) (hn2 : nl w = true) (hs : (L.set k (vL x)).set (k + 1) vS = L') : X d M pc L (vL x :: S) h Q ↔ X d M (pc + len) L' S h Q := by
  refine X_pure hi (hp.trans ?_)
  have hk : k < L.length := (List.getElem?_eq_some_iff.mp hu).1
  have hk1 : k + 1 < L.length := (List.getElem?_eq_some_iff.mp hw).1
  have e1 : st1 L k (vI 0) = L.set k (vI 0) := by unfold st1; rw [clr_nl hu hn]
  have hw' : (L.set k (vI 0))[k + 1]? = some w := by rw [List.getElem?_set_ne (by omega)]; exact hw
  have e2 : st1 (L.set k (vI 0)) (k + 1) (vI 0) = (L.set k (vI 0)).set (k + 1) (vI 0) := by unfold st1; rw [clr_nl hw' hn2]
  simp only [soL, hk1, if_true, st2, e1, e2]
  rw [← hs]
  congr 2
  rw [List.set_comm _ _ (by omega : k ≠ k + 1), List.set_set, List.set_comm _ _ (by omega : k + 1 ≠ k), List.set_set]
-- behind a call
theorem XB_v (hp : pc + len = n) : XB d M pc len L S Q (.inl [], h) ↔ X d M n L S h Q := by subst hp; exact Iff.rfl
theorem XB_1 {v : V} (hp : pc + len = n) : XB d M pc len L S Q (.inl [v], h) ↔ X d M n L (v :: S) h Q := by subst hp; exact Iff.rfl
theorem XB_t {p : Pn} (hm : hdl M pc = none) : XB d M pc len L S Q (.inr p, h) ↔ Q (.inr p, h) := by
  unfold XB
  simp only [hm]
end RUL
