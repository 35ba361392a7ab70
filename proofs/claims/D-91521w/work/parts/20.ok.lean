/-! what is valid stays valid -/
section OK
variable {h : HS} {L L' S S' : List V} {k pc pc' : Nat} {i : Instr}
def OkR (h : HS) (L L' S' : List V) : Prop := okS h L' ∧ okS h S' ∧ L'.length = L.length
theorem ok_st1 {v : V} (hL : okS h L) (hv : okV h v) : okS h (st1 L k v) := by
  intro w hw
  unfold st1 at hw
  rcases List.mem_or_eq_of_mem_set hw with z | z
  · unfold clr at z
    split at z
    · rcases List.mem_or_eq_of_mem_set z with y | y
      · exact hL w y
      · rw [y]; trivial
    · rcases List.mem_or_eq_of_mem_set z with y | y
      · exact hL w y
      · rw [y]; trivial
    · exact hL w z
  · rw [z]; exact hv
theorem st2_len {v : V} : (st2 L k v).length = L.length := by
  unfold st2; simp [st1_len]
theorem ok_st2 {x : Int64} (hL : okS h L) : okS h (st2 L k (vL x)) := by
  intro w hw
  unfold st2 at hw
  rcases List.mem_or_eq_of_mem_set hw with z | z
  · rcases List.mem_or_eq_of_mem_set z with y | y
    · exact ok_st1 (v := vI 0) (ok_st1 (v := vI 0) hL trivial) trivial w y
    · rw [y]; trivial
  · rw [z]; trivial
theorem ok_ldI (hp : ldI L k S = some (L', S')) (hL : okS h L) (hS : okS h S) : OkR h L L' S' := by
  obtain ⟨x, -, rfl, rfl⟩ := ldI_some hp
  exact ⟨hL, okS.cons trivial hS, rfl⟩
theorem ok_ldL (hp : ldL L k S = some (L', S')) (hL : okS h L) (hS : okS h S) : OkR h L L' S' := by
  obtain ⟨x, -, rfl, rfl⟩ := ldL_some hp
  exact ⟨hL, okS.cons trivial hS, rfl⟩
theorem ok_ldR (hp : ldR L k S = some (L', S')) (hL : okS h L) (hS : okS h S) : OkR h L L' S' := by
  obtain ⟨x, e, rfl, rfl⟩ := ldR_some hp
  exact ⟨hL, okS.cons (hL _ (List.mem_of_getElem? e)) hS, rfl⟩
theorem ok_soI (hp : soI L k S = some (L', S')) (hL : okS h L) (hS : okS h S) : OkR h L L' S' := by
  obtain ⟨x, rfl, -, rfl⟩ := soI_some hp
  exact ⟨ok_st1 hL trivial, hS.tail, st1_len⟩
theorem ok_soL (hp : soL L k S = some (L', S')) (hL : okS h L) (hS : okS h S) : OkR h L L' S' := by
  obtain ⟨x, rfl, -, rfl⟩ := soL_some hp
  exact ⟨ok_st2 hL, hS.tail, st2_len⟩
theorem ok_soR (hp : soR L k S = some (L', S')) (hL : okS h L) (hS : okS h S) : OkR h L L' S' := by
  obtain ⟨x, rfl, -, rfl⟩ := soR_some hp
  exact ⟨ok_st1 hL hS.head, hS.tail, st1_len⟩
theorem ok_binI {f : Int32 → Int32 → Int32} (hp : binI f L S = some (L', S')) (hL : okS h L) (hS : okS h S) : OkR h L L' S' := by
  obtain ⟨x, y, S0, rfl, rfl, rfl⟩ := binI_some hp
  exact ⟨hL, okS.cons trivial hS.tail.tail, rfl⟩
theorem ok_binL {f : Int64 → Int64 → Int64} (hp : binL f L S = some (L', S')) (hL : okS h L) (hS : okS h S) : OkR h L L' S' := by
  obtain ⟨x, y, S0, rfl, rfl, rfl⟩ := binL_some hp
  exact ⟨hL, okS.cons trivial hS.tail.tail, rfl⟩
theorem ok_divI {f : Int32 → Int32 → Int32} (hp : divI f L S = some (L', S')) (hL : okS h L) (hS : okS h S) : OkR h L L' S' := by
  obtain ⟨x, y, S0, rfl, -, rfl, rfl⟩ := divI_some hp
  exact ⟨hL, okS.cons trivial hS.tail.tail, rfl⟩
theorem ok_divL {f : Int64 → Int64 → Int64} (hp : divL f L S = some (L', S')) (hL : okS h L) (hS : okS h S) : OkR h L L' S' := by
  obtain ⟨x, y, S0, rfl, -, rfl, rfl⟩ := divL_some hp
  exact ⟨hL, okS.cons trivial hS.tail.tail, rfl⟩
theorem ok_unI {f : Int32 → Int32} (hp : unI f L S = some (L', S')) (hL : okS h L) (hS : okS h S) : OkR h L L' S' := by
  obtain ⟨x, S0, rfl, rfl, rfl⟩ := unI_some hp
  exact ⟨hL, okS.cons trivial hS.tail, rfl⟩
theorem ok_dup1 (hp : dup1 L S = some (L', S')) (hL : okS h L) (hS : okS h S) : OkR h L L' S' := by
  obtain ⟨v, S0, rfl, -, rfl, rfl⟩ := dup1_some hp
  exact ⟨hL, okS.cons hS.head hS, rfl⟩
theorem ok_pop1 (hp : pop1 L S = some (L', S')) (hL : okS h L) (hS : okS h S) : OkR h L L' S' := by
  obtain ⟨v, rfl, -, rfl⟩ := pop1_some hp
  exact ⟨hL, hS.tail, rfl⟩
theorem ok_dupB (hp : dupB L S = some (L', S')) (hL : okS h L) (hS : okS h S) : OkR h L L' S' := by
  obtain ⟨rfl, ⟨x, S0, rfl, rfl⟩ | ⟨v, w, S0, rfl, -, -, rfl⟩⟩ := dupB_some hp
  · exact ⟨hL, okS.cons trivial hS, rfl⟩
  · exact ⟨hL, okS.cons hS.head (okS.cons hS.tail.head hS), rfl⟩
set_option maxHeartbeats 1000000 in
theorem pure_ok (hp : pureI i L S = some (L', S')) (hL : okS h L) (hS : okS h S) : OkR h L L' S' := by
  cases i with
  | iload_n k => exact ok_ldI hp hL hS
  | iload k => exact ok_ldI hp hL hS
  | lload_n k => exact ok_ldL hp hL hS
  | lload k => exact ok_ldL hp hL hS
  | aload_n k => exact ok_ldR hp hL hS
  | aload k => exact ok_ldR hp hL hS
  | istore_n k => exact ok_soI hp hL hS
  | istore k => exact ok_soI hp hL hS
  | lstore_n k => exact ok_soL hp hL hS
  | lstore k => exact ok_soL hp hL hS
  | astore_n k => exact ok_soR hp hL hS
  | astore k => exact ok_soR hp hL hS
  | iconst n => cases hp; exact ⟨hL, okS.cons trivial hS, rfl⟩
  | bipush n => cases hp; exact ⟨hL, okS.cons trivial hS, rfl⟩
  | sipush n => cases hp; exact ⟨hL, okS.cons trivial hS, rfl⟩
  | lconst n => cases hp; exact ⟨hL, okS.cons trivial hS, rfl⟩
  | aconst_null => cases hp; exact ⟨hL, okS.cons (Or.inl rfl) hS, rfl⟩
  | iinc k n =>
    simp only [pureI] at hp
    split at hp
    · cases hp; exact ⟨ok_st1 hL trivial, hS, st1_len⟩
    · cases hp
  | iadd => exact ok_binI hp hL hS
  | isub => exact ok_binI hp hL hS
  | imul => exact ok_binI hp hL hS
  | iand => exact ok_binI hp hL hS
  | ior => exact ok_binI hp hL hS
  | ishl => exact ok_binI hp hL hS
  | ishr => exact ok_binI hp hL hS
  | idiv => exact ok_divI hp hL hS
  | irem => exact ok_divI hp hL hS
  | ineg => exact ok_unI hp hL hS
  | i2b => exact ok_unI hp hL hS
  | i2c => exact ok_unI hp hL hS
  | ladd => exact ok_binL hp hL hS
  | lsub => exact ok_binL hp hL hS
  | lmul => exact ok_binL hp hL hS
  | land => exact ok_binL hp hL hS
  | lor => exact ok_binL hp hL hS
  | ldiv => exact ok_divL hp hL hS
  | lrem => exact ok_divL hp hL hS
  | lneg =>
    simp only [pureI] at hp
    split at hp
    · cases hp; exact ⟨hL, okS.cons trivial hS.tail, rfl⟩
    · cases hp
  | i2l =>
    simp only [pureI] at hp
    split at hp
    · cases hp; exact ⟨hL, okS.cons trivial hS.tail, rfl⟩
    · cases hp
  | l2i =>
    simp only [pureI] at hp
    split at hp
    · cases hp; exact ⟨hL, okS.cons trivial hS.tail, rfl⟩
    · cases hp
  | lcmp =>
    simp only [pureI] at hp
    split at hp
    · cases hp; exact ⟨hL, okS.cons trivial hS.tail.tail, rfl⟩
    · cases hp
  | dup => exact ok_dup1 hp hL hS
  | dup2 => exact ok_dupB hp hL hS
  | pop => exact ok_pop1 hp hL hS
  | _ => cases (show (none : Option (List V × List V)) = some (L', S') from hp)
theorem jmp_ok (hj : jmpI i pc S = some (pc', S')) (hS : okS h S) : okS h S' := by
  cases i with
  | goto off =>
    simp only [jmpI] at hj
    split at hj
    · cases hj; exact hS
    · cases hj
  | ifCond c off =>
    simp only [jmpI] at hj
    split at hj
    · cases hj; exact hS.tail
    · cases hj
  | if_icmp c off =>
    simp only [jmpI] at hj
    split at hj
    · cases hj; exact hS.tail.tail
    · cases hj
  | ifnull off =>
    simp only [jmpI] at hj
    split at hj
    · split at hj
      · cases hj
      · cases hj; exact hS.tail
    · cases hj
  | ifnonnull off =>
    simp only [jmpI] at hj
    split at hj
    · split at hj
      · cases hj
      · cases hj; exact hS.tail
    · cases hj
  | tableswitch d lo hi offs =>
    simp only [jmpI] at hj
    split at hj
    · split at hj
      · split at hj
        · cases hj; exact hS.tail
        · cases hj
      · split at hj
        · split at hj
          · cases hj; exact hS.tail
          · cases hj
        · cases hj
    · cases hj
  | lookupswitch d ps =>
    simp only [jmpI] at hj
    split at hj
    · split at hj
      · split at hj
        · cases hj; exact hS.tail
        · cases hj
      · cases hj
    · cases hj
  | _ => cases (show (none : Option (Nat × List V)) = some (pc', S') from hj)
end OK
