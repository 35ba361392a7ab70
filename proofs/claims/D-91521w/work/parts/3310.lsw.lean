/-! the one lookupswitch: greatest -/
theorem i_121_1 : ins 121 1 = some (.lookupswitch 43 #[(0, 35), (4, 37), (5, 40)], 35) := by decide +kernel
theorem t_121_a : tg 1 35 = some 36 := by decide +kernel
theorem t_121_b : tg 1 37 = some 38 := by decide +kernel
theorem t_121_c : tg 1 40 = some 41 := by decide +kernel
theorem t_121_d : tg 1 43 = some 44 := by decide +kernel
section LSW
variable {d : Nat} {h : HS} {Q : (List V ⊕ Pn) × HS → Prop} {x : Int32}
theorem b_121_0 : X d 121 0 [vI x] [] h Q ↔ X d 121 (if x.toInt = 0 then 36 else if x.toInt = 4 then 38 else if x.toInt = 5 then 41 else 44) [vI x] [] h Q := by
  refine (X_pure i_121_0 rfl).trans (X_jmp i_121_1 rfl ?_)
  have hs : (([(0, 35), (4, 37), (5, 40)] : List (Int × Int)).zip (([(0, 35), (4, 37), (5, 40)] : List (Int × Int)).drop 1)).all (fun (a, next) => a.1 < next.1) = true := by decide
  simp only [jmpI]
  rw [if_pos hs, Jvm.Op.lookupswitch.offset_cons, Jvm.Op.lookupswitch.offset_cons, Jvm.Op.lookupswitch.offset_cons, Jvm.Op.lookupswitch.offset_nil]
  by_cases h0 : x.toInt = 0
  · rw [if_pos h0.symm, if_pos h0, t_121_a]
  · rw [if_neg (fun z => h0 z.symm), if_neg h0]
    by_cases h4 : x.toInt = 4
    · rw [if_pos h4.symm, if_pos h4, t_121_b]
    · rw [if_neg (fun z => h4 z.symm), if_neg h4]
      by_cases h5 : x.toInt = 5
      · rw [if_pos h5.symm, if_pos h5, t_121_c]
      · rw [if_neg (fun z => h5 z.symm), if_neg h5, t_121_d]
theorem s_121 : Ev d 121 [vI x] h Q ↔ Q (.inl [vI (if x.toInt = 0 then nI 5 else if x.toInt = 4 then nI 9 else if x.toInt = 5 then nI 24 else nI 999)], h) := by
  refine Iff.trans (Iff.rfl : Ev d 121 [vI x] h Q ↔ X d 121 0 [vI x] [] h Q) (b_121_0.trans ?_)
  split
  · exact b_121_36
  · split
    · exact b_121_38
    · split
      · exact b_121_41
      · exact b_121_44
end LSW
