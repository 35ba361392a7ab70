/-! blocks (printed by genblk.py) -/
set_option maxRecDepth 100000
-- X8_isThere
theorem b_200_0 {d : Nat} {j0 : Nat} {x1 : Int32} {h : HS} {Q : (List V ⊕ Pn) × HS → Prop} : X d 200 0 [vR (9437318, j0), vI x1] [] h Q ↔ if x1 < (gI h 9437318 j0 6) then X d 200 28 [vR (9437318, j0), vI x1] [] h Q else X d 200 8 [vR (9437318, j0), vI x1] [] h Q :=
  (X_pure i_200_0 rfl).trans ((X_getI i_200_1 f_200_40).trans ((X_pure i_200_4 rfl).trans (X_ic_gt i_200_5 t_5_28)))
theorem b_200_8 {d : Nat} {j0 : Nat} {x1 : Int32} {h : HS} {Q : (List V ⊕ Pn) × HS → Prop} : X d 200 8 [vR (9437318, j0), vI x1] [] h Q ↔ if (gI h 9437318 j0 9) = (-1) then X d 200 24 [vR (9437318, j0), vI x1] [] h Q else X d 200 16 [vR (9437318, j0), vI x1] [] h Q :=
  (X_pure i_200_8 rfl).trans ((X_getI i_200_9 f_200_9).trans ((X_icI i_200_12 kI_m1).trans (X_ic_eq i_200_13 t_13_24)))
theorem b_200_16 {d : Nat} {j0 : Nat} {x1 : Int32} {h : HS} {Q : (List V ⊕ Pn) × HS → Prop} : X d 200 16 [vR (9437318, j0), vI x1] [] h Q ↔ if x1 < (gI h 9437318 j0 9) then X d 200 24 [vR (9437318, j0), vI x1] [] h Q else X d 200 28 [vR (9437318, j0), vI x1] [] h Q :=
  (X_pure i_200_16 rfl).trans ((X_getI i_200_17 f_200_9).trans ((X_pure i_200_20 rfl).trans (X_ic_le i_200_21 t_21_28)))
theorem b_200_24 {d : Nat} {j0 : Nat} {x1 : Int32} {h : HS} {Q : (List V ⊕ Pn) × HS → Prop} : X d 200 24 [vR (9437318, j0), vI x1] [] h Q ↔ X d 200 29 [vR (9437318, j0), vI x1] [vI (nI 1)] h Q :=
  (X_icI i_200_24 kI_1).trans ((X_go i_200_25 t_25_29).trans (Iff.rfl))
theorem b_200_28 {d : Nat} {j0 : Nat} {x1 : Int32} {h : HS} {Q : (List V ⊕ Pn) × HS → Prop} : X d 200 28 [vR (9437318, j0), vI x1] [] h Q ↔ X d 200 29 [vR (9437318, j0), vI x1] [vI (nI 0)] h Q :=
  (X_icI i_200_28 kI_0).trans (Iff.rfl)
theorem b_200_29 {d : Nat} {j0 : Nat} {x1 : Int32} {xs0 : Int32} {h : HS} {Q : (List V ⊕ Pn) × HS → Prop} : X d 200 29 [vR (9437318, j0), vI x1] [vI xs0] h Q ↔ (xs0 = 0 ∨ xs0 = 1) ∧ Q (.inl [vI xs0], h) :=
  X_rz i_200_29 r_200
theorem e_200 {d : Nat} {x0 : Nat} {x1 : Int32} {h : HS} {Q : (List V ⊕ Pn) × HS → Prop} : Ev d 200 [vR (9437318, x0), vI x1] h Q ↔ X d 200 0 [vR (9437318, x0), vI x1] [] h Q := Iff.rfl
-- X9_init
theorem b_201_0 {d : Nat} {j0 : Nat} {x1 : Int32} {x2 : Int32} {x3 : Int32} {x4 : Int32} {x5 : Int32} {h : HS} {Q : (List V ⊕ Pn) × HS → Prop} : X d 201 0 [vR (10485910, j0), vI x1, vI x2, vI x3, vI x4, vI x5] [] h Q ↔ (x4 = 0 ∨ x4 = 1) ∧ Q (.inl [], sI (sI (sI (sI (sI h 10485910 j0 0 x1) 10485910 j0 1 x2) 10485910 j0 2 x3) 10485910 j0 4 x4) 10485910 j0 3 x5) :=
  (X_pure i_201_0 rfl).trans ((X_oi i_201_1 v_201_1 (Nat.le_of_ble_eq_true rfl) rfl).trans ((X_pure i_201_4 rfl).trans ((X_pure i_201_5 rfl).trans ((X_putI i_201_6 f_201_7 o_201_10485910_0).trans ((X_pure i_201_9 rfl).trans ((X_pure i_201_10 rfl).trans ((X_putI i_201_11 f_201_13 o_201_10485910_1).trans ((X_pure i_201_14 rfl).trans ((X_pure i_201_15 rfl).trans ((X_putI i_201_16 f_201_16 o_201_10485910_2).trans ((X_pure i_201_19 rfl).trans ((X_pure i_201_20 rfl).trans ((X_putZ i_201_22 f_201_19 o_201_10485910_4).trans (ac ((X_pure i_201_25 rfl).trans ((X_pure i_201_26 rfl).trans ((X_putI i_201_28 f_201_23 o_201_10485910_3).trans (X_rv i_201_31 r_201))))))))))))))))))
theorem e_201 {d : Nat} {x0 : Nat} {x1 : Int32} {x2 : Int32} {x3 : Int32} {x4 : Int32} {x5 : Int32} {h : HS} {Q : (List V ⊕ Pn) × HS → Prop} : Ev d 201 [vR (10485910, x0), vI x1, vI x2, vI x3, vI x4, vI x5] h Q ↔ X d 201 0 [vR (10485910, x0), vI x1, vI x2, vI x3, vI x4, vI x5] [] h Q := Iff.rfl
-- X10_init
theorem b_202_0 {d : Nat} {j0 : Nat} {p1 : Pn} {h : HS} {Q : (List V ⊕ Pn) × HS → Prop} (hd : 1 ≤ d) : X d 202 0 [vR (11534502, j0), vR p1] [] h Q ↔ (nc (sR h 11534502 j0 6 p1) + 1 ≤ NCL ∧ ns (sR h 11534502 j0 6 p1) + 8 ≤ NSL) ∧ Ev (d - 1) 66 [vR (3145766, (cn h 3145766))] (al (sR h 11534502 j0 6 p1) 3145766 8) (XB d 202 14 3 [vR (11534502, j0), vR p1] [vR (3145766, (cn h 3145766)), vR (11534502, j0)] Q) :=
  (X_pure i_202_0 rfl).trans ((X_pure i_202_1 rfl).trans ((X_putR i_202_2 f_202_3 o_202_11534502_6).trans ((X_pure i_202_5 rfl).trans ((X_oi i_202_6 v_202_9 (Nat.le_of_ble_eq_true rfl) rfl).trans ((X_pure i_202_9 rfl).trans ((X_newc i_202_10 n_202_15 (rc_R)).trans (ac ((X_pure i_202_13 rfl).trans (X_ci hd i_202_14 v_202_17 rfl (Nat.le_of_ble_eq_true rfl) rfl rfl ⟨rfl, rfl⟩)))))))))
theorem b_202_17 {d : Nat} {j0 : Nat} {p1 : Pn} {js0 : Nat} {js1 : Nat} {h : HS} {Q : (List V ⊕ Pn) × HS → Prop} : X d 202 17 [vR (11534502, j0), vR p1] [vR (3145766, js1), vR (11534502, js0)] h Q ↔ Q (.inl [], sR h 11534502 js0 0 (3145766, js1)) :=
  (X_putR i_202_17 f_202_18 o_202_11534502_0).trans (X_rv i_202_20 r_202)
theorem c_202_14 {d : Nat} {L S : List V} {h : HS} {Q : (List V ⊕ Pn) × HS → Prop} : XB d 202 14 3 L S Q (.inl [], h) ↔ X d 202 17 L S h Q := Iff.rfl
theorem e_202 {d : Nat} {x0 : Nat} {x1 : Pn} {h : HS} {Q : (List V ⊕ Pn) × HS → Prop} : Ev d 202 [vR (11534502, x0), vR x1] h Q ↔ X d 202 0 [vR (11534502, x0), vR x1] [] h Q := Iff.rfl
-- X10_act
theorem b_203_0 {d : Nat} {j0 : Nat} {h : HS} {Q : (List V ⊕ Pn) × HS → Prop} (hd : 1 ≤ d) : X d 203 0 [vR (11534502, j0)] [] h Q ↔ Ev (d - 1) 204 [vR (11534502, j0)] h (XB d 203 1 3 [vR (11534502, j0)] [] Q) :=
  (X_pure i_203_0 rfl).trans (X_cv hd i_203_1 v_203_45 rfl rfl rfl ⟨rfl, rfl⟩)
theorem b_203_4 {d : Nat} {j0 : Nat} {xs0 : Int32} {h : HS} {Q : (List V ⊕ Pn) × HS → Prop} (hd : 1 ≤ d) : X d 203 4 [vR (11534502, j0)] [vI xs0] h Q ↔ Ev (d - 1) 205 [vR (11534502, j0), vI (gI h 11534502 j0 1)] h (XB d 203 10 3 [vR (11534502, j0)] [] Q) :=
  (X_pure i_203_4 rfl).trans ((X_pure i_203_5 rfl).trans ((X_pure i_203_6 rfl).trans ((X_getI i_203_7 f_203_35).trans (X_cv hd i_203_10 v_203_79 rfl rfl rfl ⟨rfl, rfl⟩))))
theorem b_203_13 {d : Nat} {j0 : Nat} {h : HS} {Q : (List V ⊕ Pn) × HS → Prop} (hd : 1 ≤ d) : X d 203 13 [vR (11534502, j0)] [] h Q ↔ Ev (d - 1) 218 [vR (11534502, j0), vI (nI 59)] h (XB d 203 16 3 [vR (11534502, j0)] [] Q) :=
  (X_pure i_203_13 rfl).trans ((X_icB i_203_14 kB_59).trans (X_cv hd i_203_16 v_203_49 rfl rfl rfl ⟨rfl, rfl⟩))
theorem b_203_19 {d : Nat} {j0 : Nat} {xs0 : Int32} {h : HS} {Q : (List V ⊕ Pn) × HS → Prop} : X d 203 19 [vR (11534502, j0)] [vI xs0] h Q ↔ if xs0 = 0 then X d 203 22 [vR (11534502, j0)] [] h Q else X d 203 0 [vR (11534502, j0)] [] h Q :=
  X_if_ne i_203_19 t_19_0
theorem b_203_22 {d : Nat} {j0 : Nat} {h : HS} {Q : (List V ⊕ Pn) × HS → Prop} (hd : 1 ≤ d) : X d 203 22 [vR (11534502, j0)] [] h Q ↔ Ev (d - 1) 204 [vR (11534502, j0)] h (XB d 203 24 3 [vR (11534502, j0)] [vR (11534502, j0)] Q) :=
  (X_pure i_203_22 rfl).trans ((X_pure i_203_23 rfl).trans (X_cv hd i_203_24 v_203_45 rfl rfl rfl ⟨rfl, rfl⟩))
theorem b_203_27 {d : Nat} {j0 : Nat} {js0 : Nat} {xs1 : Int32} {h : HS} {Q : (List V ⊕ Pn) × HS → Prop} : X d 203 27 [vR (11534502, j0)] [vI xs1, vR (11534502, js0)] h Q ↔ if xs1 = (-1) then X d 203 31 [vR (11534502, j0)] [vR (11534502, js0)] h Q else X d 203 35 [vR (11534502, j0)] [vR (11534502, js0)] h Q :=
  (X_icI i_203_27 kI_m1).trans (X_ic_ne i_203_28 t_28_35)
theorem b_203_31 {d : Nat} {j0 : Nat} {js0 : Nat} {h : HS} {Q : (List V ⊕ Pn) × HS → Prop} : X d 203 31 [vR (11534502, j0)] [vR (11534502, js0)] h Q ↔ X d 203 36 [vR (11534502, j0)] [vI (nI 1), vR (11534502, js0)] h Q :=
  (X_icI i_203_31 kI_1).trans ((X_go i_203_32 t_32_36).trans (Iff.rfl))
theorem b_203_35 {d : Nat} {j0 : Nat} {js0 : Nat} {h : HS} {Q : (List V ⊕ Pn) × HS → Prop} : X d 203 35 [vR (11534502, j0)] [vR (11534502, js0)] h Q ↔ X d 203 36 [vR (11534502, j0)] [vI (nI 0), vR (11534502, js0)] h Q :=
  (X_icI i_203_35 kI_0).trans (Iff.rfl)
theorem b_203_36 {d : Nat} {j0 : Nat} {js0 : Nat} {xs1 : Int32} {h : HS} {Q : (List V ⊕ Pn) × HS → Prop} (hd : 1 ≤ d) : X d 203 36 [vR (11534502, j0)] [vI xs1, vR (11534502, js0)] h Q ↔ Ev (d - 1) 208 [vR (11534502, js0), vI xs1, vI (nI 0), vI (gI h 11534502 j0 1)] h (XB d 203 41 3 [vR (11534502, j0)] [] Q) :=
  (X_icI i_203_36 kI_0).trans ((X_pure i_203_37 rfl).trans ((X_getI i_203_38 f_203_35).trans (X_cv hd i_203_41 v_203_53 rfl rfl rfl ⟨rfl, rfl⟩)))
theorem b_203_44 {d : Nat} {j0 : Nat} {h : HS} {Q : (List V ⊕ Pn) × HS → Prop} : X d 203 44 [vR (11534502, j0)] [] h Q ↔ Q (.inl [vR (gR h 11534502 j0 0)], h) :=
  (X_pure i_203_44 rfl).trans ((X_getR i_203_45 f_203_18).trans (X_ra i_203_48 r_203))
theorem c_203_1 {d : Nat} {L S : List V} {v : V} {h : HS} {Q : (List V ⊕ Pn) × HS → Prop} : XB d 203 1 3 L S Q (.inl [v], h) ↔ X d 203 4 L (v :: S) h Q := Iff.rfl
theorem c_203_10 {d : Nat} {L S : List V} {h : HS} {Q : (List V ⊕ Pn) × HS → Prop} : XB d 203 10 3 L S Q (.inl [], h) ↔ X d 203 13 L S h Q := Iff.rfl
theorem c_203_16 {d : Nat} {L S : List V} {v : V} {h : HS} {Q : (List V ⊕ Pn) × HS → Prop} : XB d 203 16 3 L S Q (.inl [v], h) ↔ X d 203 19 L (v :: S) h Q := Iff.rfl
theorem c_203_24 {d : Nat} {L S : List V} {v : V} {h : HS} {Q : (List V ⊕ Pn) × HS → Prop} : XB d 203 24 3 L S Q (.inl [v], h) ↔ X d 203 27 L (v :: S) h Q := Iff.rfl
theorem c_203_41 {d : Nat} {L S : List V} {h : HS} {Q : (List V ⊕ Pn) × HS → Prop} : XB d 203 41 3 L S Q (.inl [], h) ↔ X d 203 44 L S h Q := Iff.rfl
theorem e_203 {d : Nat} {x0 : Nat} {h : HS} {Q : (List V ⊕ Pn) × HS → Prop} : Ev d 203 [vR (11534502, x0)] h Q ↔ X d 203 0 [vR (11534502, x0)] [] h Q := Iff.rfl
-- X10_see
theorem b_204_0 {d : Nat} {j0 : Nat} {h : HS} {Q : (List V ⊕ Pn) × HS → Prop} (hS : Sh h) (hj0 : j0 < cn h 11534502) : X d 204 0 [vR (11534502, j0)] [] h Q ↔ if (gI h 11534502 j0 1) < (gI h 1048582 0 12) then X d 204 14 [vR (11534502, j0)] [] h Q else X d 204 44 [vR (11534502, j0)] [] h Q :=
  (X_pure i_204_0 rfl).trans ((X_getI i_204_1 f_204_35).trans ((X_pure i_204_4 rfl).trans ((X_getS i_204_5 f_204_3 (sht hS hj0)).trans ((X_getI i_204_8 f_204_38).trans (X_ic_ge i_204_11 t_11_44)))))
theorem b_204_14 {d : Nat} {j0 : Nat} {h : HS} {Q : (List V ⊕ Pn) × HS → Prop} (hS : Sh h) (hj0 : j0 < cn h 11534502) : X d 204 14 [vR (11534502, j0)] [] h Q ↔ inb (gI h 11534502 j0 1) 400 ∧ (if (gI h 28317954 0 (ix (gI h 11534502 j0 1))) = (nI 32) then X d 204 31 [vR (11534502, j0)] [] h Q else X d 204 44 [vR (11534502, j0)] [] h Q) :=
  (X_pure i_204_14 rfl).trans ((X_getS i_204_15 f_204_3 (sht hS hj0)).trans ((X_getS i_204_18 f_204_41 (sh_6 hS)).trans ((X_pure i_204_21 rfl).trans ((X_getI i_204_22 f_204_35).trans ((X_bald i_204_25 kl_28317954 (by decide)).trans (ac ((X_icB i_204_26 kB_32).trans (X_ic_ne i_204_28 t_28_44))))))))
theorem b_204_31 {d : Nat} {j0 : Nat} {h : HS} {Q : (List V ⊕ Pn) × HS → Prop} : X d 204 31 [vR (11534502, j0)] [] h Q ↔ X d 204 0 [vR (11534502, j0)] [] (sI h 11534502 j0 1 ((gI h 11534502 j0 1) + (nI 1))) Q :=
  (X_pure i_204_31 rfl).trans ((X_pure i_204_32 rfl).trans ((X_getI i_204_33 f_204_35).trans ((X_icI i_204_36 kI_1).trans ((X_pure i_204_37 rfl).trans ((X_putI i_204_38 f_204_35 o_204_11534502_1).trans ((X_go i_204_41 t_41_0).trans (Iff.rfl)))))))
theorem b_204_44 {d : Nat} {j0 : Nat} {h : HS} {Q : (List V ⊕ Pn) × HS → Prop} (hS : Sh h) (hj0 : j0 < cn h 11534502) : X d 204 44 [vR (11534502, j0)] [] h Q ↔ if (gI h 11534502 j0 1) < (gI h 1048582 0 12) then X d 204 58 [vR (11534502, j0)] [] h Q else X d 204 77 [vR (11534502, j0)] [] h Q :=
  (X_pure i_204_44 rfl).trans ((X_getI i_204_45 f_204_35).trans ((X_pure i_204_48 rfl).trans ((X_getS i_204_49 f_204_3 (sht hS hj0)).trans ((X_getI i_204_52 f_204_38).trans (X_ic_ge i_204_55 t_55_77)))))
theorem b_204_58 {d : Nat} {j0 : Nat} {h : HS} {Q : (List V ⊕ Pn) × HS → Prop} (hS : Sh h) (hj0 : j0 < cn h 11534502) : X d 204 58 [vR (11534502, j0)] [] h Q ↔ inb (gI h 11534502 j0 1) 400 ∧ X d 204 78 [vR (11534502, j0)] [vI ((gI h 28317954 0 (ix (gI h 11534502 j0 1))) &&& (nI 255))] h Q :=
  (X_pure i_204_58 rfl).trans ((X_getS i_204_59 f_204_3 (sht hS hj0)).trans ((X_getS i_204_62 f_204_41 (sh_6 hS)).trans ((X_pure i_204_65 rfl).trans ((X_getI i_204_66 f_204_35).trans ((X_bald i_204_69 kl_28317954 (by decide)).trans (ac ((X_icS i_204_70 kS_255).trans ((X_pure i_204_73 rfl).trans ((X_go i_204_74 t_74_78).trans (Iff.rfl))))))))))
theorem b_204_77 {d : Nat} {j0 : Nat} {h : HS} {Q : (List V ⊕ Pn) × HS → Prop} : X d 204 77 [vR (11534502, j0)] [] h Q ↔ X d 204 78 [vR (11534502, j0)] [vI (-1)] h Q :=
  (X_icI i_204_77 kI_m1).trans (Iff.rfl)
theorem b_204_78 {d : Nat} {j0 : Nat} {xs0 : Int32} {h : HS} {Q : (List V ⊕ Pn) × HS → Prop} : X d 204 78 [vR (11534502, j0)] [vI xs0] h Q ↔ Q (.inl [vI xs0], h) :=
  X_ri i_204_78 r_204
theorem e_204 {d : Nat} {x0 : Nat} {h : HS} {Q : (List V ⊕ Pn) × HS → Prop} : Ev d 204 [vR (11534502, x0)] h Q ↔ X d 204 0 [vR (11534502, x0)] [] h Q := Iff.rfl
-- X10_clause
theorem b_205_0 {d : Nat} {j0 : Nat} {x1 : Int32} {u2 : V} {u3 : V} {h : HS} {Q : (List V ⊕ Pn) × HS → Prop} (hd : 1 ≤ d) : X d 205 0 [vR (11534502, j0), vI x1, u2, u3] [] h Q ↔ Ev (d - 1) 206 [vR (11534502, j0)] h (XB d 205 1 3 [vR (11534502, j0), vI x1, u2, u3] [] Q) :=
  (X_pure i_205_0 rfl).trans (X_cv hd i_205_1 v_205_91 rfl rfl rfl ⟨rfl, rfl⟩)
theorem b_205_4 {d : Nat} {j0 : Nat} {x1 : Int32} {u2 : V} {u3 : V} {xs0 : Int32} {h : HS} {Q : (List V ⊕ Pn) × HS → Prop} (hd : 1 ≤ d) (nu2 : nl u2 = true) : X d 205 4 [vR (11534502, j0), vI x1, u2, u3] [vI xs0] h Q ↔ Ev (d - 1) 207 [vR (11534502, j0), vR (8, 20)] h (XB d 205 8 3 [vR (11534502, j0), vI x1, vI xs0, u3] [] Q) :=
  (X_soI i_205_4 rfl rfl nu2 rfl).trans ((X_pure i_205_5 rfl).trans ((X_ldc i_205_6 l_205_94 rfl).trans (X_cv hd i_205_8 v_205_66 rfl rfl rfl ⟨rfl, rfl⟩)))
theorem b_205_11 {d : Nat} {j0 : Nat} {x1 : Int32} {x2 : Int32} {u3 : V} {xs0 : Int32} {h : HS} {Q : (List V ⊕ Pn) × HS → Prop} : X d 205 11 [vR (11534502, j0), vI x1, vI x2, u3] [vI xs0] h Q ↔ if xs0 = 0 then X d 205 14 [vR (11534502, j0), vI x1, vI x2, u3] [] h Q else X d 205 32 [vR (11534502, j0), vI x1, vI x2, u3] [] h Q :=
  X_if_ne i_205_11 t_11_32
theorem b_205_14 {d : Nat} {j0 : Nat} {x1 : Int32} {x2 : Int32} {u3 : V} {h : HS} {Q : (List V ⊕ Pn) × HS → Prop} (hd : 1 ≤ d) : X d 205 14 [vR (11534502, j0), vI x1, vI x2, u3] [] h Q ↔ Ev (d - 1) 207 [vR (11534502, j0), vR (8, 21)] h (XB d 205 17 3 [vR (11534502, j0), vI x1, vI x2, u3] [] Q) :=
  (X_pure i_205_14 rfl).trans ((X_ldc i_205_15 l_205_96 rfl).trans (X_cv hd i_205_17 v_205_66 rfl rfl rfl ⟨rfl, rfl⟩))
theorem b_205_20 {d : Nat} {j0 : Nat} {x1 : Int32} {x2 : Int32} {u3 : V} {xs0 : Int32} {h : HS} {Q : (List V ⊕ Pn) × HS → Prop} : X d 205 20 [vR (11534502, j0), vI x1, vI x2, u3] [vI xs0] h Q ↔ if xs0 = 0 then X d 205 23 [vR (11534502, j0), vI x1, vI x2, u3] [] h Q else X d 205 32 [vR (11534502, j0), vI x1, vI x2, u3] [] h Q :=
  X_if_ne i_205_20 t_20_32
theorem b_205_23 {d : Nat} {j0 : Nat} {x1 : Int32} {x2 : Int32} {u3 : V} {h : HS} {Q : (List V ⊕ Pn) × HS → Prop} (hd : 1 ≤ d) : X d 205 23 [vR (11534502, j0), vI x1, vI x2, u3] [] h Q ↔ Ev (d - 1) 207 [vR (11534502, j0), vR (8, 22)] h (XB d 205 26 3 [vR (11534502, j0), vI x1, vI x2, u3] [] Q) :=
  (X_pure i_205_23 rfl).trans ((X_ldc i_205_24 l_205_98 rfl).trans (X_cv hd i_205_26 v_205_66 rfl rfl rfl ⟨rfl, rfl⟩))
theorem b_205_29 {d : Nat} {j0 : Nat} {x1 : Int32} {x2 : Int32} {u3 : V} {xs0 : Int32} {h : HS} {Q : (List V ⊕ Pn) × HS → Prop} : X d 205 29 [vR (11534502, j0), vI x1, vI x2, u3] [vI xs0] h Q ↔ if xs0 = 0 then X d 205 36 [vR (11534502, j0), vI x1, vI x2, u3] [] h Q else X d 205 32 [vR (11534502, j0), vI x1, vI x2, u3] [] h Q :=
  X_if_eq i_205_29 t_29_36
theorem b_205_32 {d : Nat} {j0 : Nat} {x1 : Int32} {x2 : Int32} {u3 : V} {h : HS} {Q : (List V ⊕ Pn) × HS → Prop} : X d 205 32 [vR (11534502, j0), vI x1, vI x2, u3] [] h Q ↔ X d 205 37 [vR (11534502, j0), vI x1, vI x2, u3] [vI (nI 1)] h Q :=
  (X_icI i_205_32 kI_1).trans ((X_go i_205_33 t_33_37).trans (Iff.rfl))
theorem b_205_36 {d : Nat} {j0 : Nat} {x1 : Int32} {x2 : Int32} {u3 : V} {h : HS} {Q : (List V ⊕ Pn) × HS → Prop} : X d 205 36 [vR (11534502, j0), vI x1, vI x2, u3] [] h Q ↔ X d 205 37 [vR (11534502, j0), vI x1, vI x2, u3] [vI (nI 0)] h Q :=
  (X_icI i_205_36 kI_0).trans (Iff.rfl)
theorem b_205_37 {d : Nat} {j0 : Nat} {x1 : Int32} {x2 : Int32} {u3 : V} {xs0 : Int32} {h : HS} {Q : (List V ⊕ Pn) × HS → Prop} (nu3 : nl u3 = true) : X d 205 37 [vR (11534502, j0), vI x1, vI x2, u3] [vI xs0] h Q ↔ if x2 = (-1) then X d 205 44 [vR (11534502, j0), vI x1, vI x2, vI xs0] [vR (11534502, j0)] h Q else X d 205 48 [vR (11534502, j0), vI x1, vI x2, vI xs0] [vR (11534502, j0)] h Q :=
  (X_soI i_205_37 rfl rfl nu3 rfl).trans ((X_pure i_205_38 rfl).trans ((X_pure i_205_39 rfl).trans ((X_icI i_205_40 kI_m1).trans (X_ic_ne i_205_41 t_41_48))))
theorem b_205_44 {d : Nat} {j0 : Nat} {x1 : Int32} {x2 : Int32} {x3 : Int32} {js0 : Nat} {h : HS} {Q : (List V ⊕ Pn) × HS → Prop} : X d 205 44 [vR (11534502, j0), vI x1, vI x2, vI x3] [vR (11534502, js0)] h Q ↔ if x3 = 0 then X d 205 52 [vR (11534502, j0), vI x1, vI x2, vI x3] [vR (11534502, js0)] h Q else X d 205 48 [vR (11534502, j0), vI x1, vI x2, vI x3] [vR (11534502, js0)] h Q :=
  (X_pure i_205_44 rfl).trans (X_if_eq i_205_45 t_45_52)
theorem b_205_48 {d : Nat} {j0 : Nat} {x1 : Int32} {x2 : Int32} {x3 : Int32} {js0 : Nat} {h : HS} {Q : (List V ⊕ Pn) × HS → Prop} : X d 205 48 [vR (11534502, j0), vI x1, vI x2, vI x3] [vR (11534502, js0)] h Q ↔ X d 205 53 [vR (11534502, j0), vI x1, vI x2, vI x3] [vI (nI 1), vR (11534502, js0)] h Q :=
  (X_icI i_205_48 kI_1).trans ((X_go i_205_49 t_49_53).trans (Iff.rfl))
theorem b_205_52 {d : Nat} {j0 : Nat} {x1 : Int32} {x2 : Int32} {x3 : Int32} {js0 : Nat} {h : HS} {Q : (List V ⊕ Pn) × HS → Prop} : X d 205 52 [vR (11534502, j0), vI x1, vI x2, vI x3] [vR (11534502, js0)] h Q ↔ X d 205 53 [vR (11534502, j0), vI x1, vI x2, vI x3] [vI (nI 0), vR (11534502, js0)] h Q :=
  (X_icI i_205_52 kI_0).trans (Iff.rfl)
theorem b_205_53 {d : Nat} {j0 : Nat} {x1 : Int32} {x2 : Int32} {x3 : Int32} {js0 : Nat} {xs1 : Int32} {h : HS} {Q : (List V ⊕ Pn) × HS → Prop} (hd : 1 ≤ d) : X d 205 53 [vR (11534502, j0), vI x1, vI x2, vI x3] [vI xs1, vR (11534502, js0)] h Q ↔ Ev (d - 1) 208 [vR (11534502, js0), vI xs1, vI (nI 0), vI x1] h (XB d 205 55 3 [vR (11534502, j0), vI x1, vI x2, vI x3] [] Q) :=
  (X_icI i_205_53 kI_0).trans ((X_pure i_205_54 rfl).trans (X_cv hd i_205_55 v_205_53 rfl rfl rfl ⟨rfl, rfl⟩))
theorem b_205_58 {d : Nat} {j0 : Nat} {x1 : Int32} {x2 : Int32} {x3 : Int32} {h : HS} {Q : (List V ⊕ Pn) × HS → Prop} : X d 205 58 [vR (11534502, j0), vI x1, vI x2, vI x3] [] h Q ↔ if (gI h 11534502 j0 5) < (nI 12) then X d 205 68 [vR (11534502, j0), vI x1, vI x2, vI x3] [vR (11534502, j0)] h Q else X d 205 72 [vR (11534502, j0), vI x1, vI x2, vI x3] [vR (11534502, j0)] h Q :=
  (X_pure i_205_58 rfl).trans ((X_pure i_205_59 rfl).trans ((X_getI i_205_60 f_205_100).trans ((X_icB i_205_63 kB_12).trans (X_ic_ge i_205_65 t_65_72))))
theorem b_205_68 {d : Nat} {j0 : Nat} {x1 : Int32} {x2 : Int32} {x3 : Int32} {js0 : Nat} {h : HS} {Q : (List V ⊕ Pn) × HS → Prop} : X d 205 68 [vR (11534502, j0), vI x1, vI x2, vI x3] [vR (11534502, js0)] h Q ↔ X d 205 73 [vR (11534502, j0), vI x1, vI x2, vI x3] [vI (nI 1), vR (11534502, js0)] h Q :=
  (X_icI i_205_68 kI_1).trans ((X_go i_205_69 t_69_73).trans (Iff.rfl))
theorem b_205_72 {d : Nat} {j0 : Nat} {x1 : Int32} {x2 : Int32} {x3 : Int32} {js0 : Nat} {h : HS} {Q : (List V ⊕ Pn) × HS → Prop} : X d 205 72 [vR (11534502, j0), vI x1, vI x2, vI x3] [vR (11534502, js0)] h Q ↔ X d 205 73 [vR (11534502, j0), vI x1, vI x2, vI x3] [vI (nI 0), vR (11534502, js0)] h Q :=
  (X_icI i_205_72 kI_0).trans (Iff.rfl)
theorem b_205_73 {d : Nat} {j0 : Nat} {x1 : Int32} {x2 : Int32} {x3 : Int32} {js0 : Nat} {xs1 : Int32} {h : HS} {Q : (List V ⊕ Pn) × HS → Prop} (hd : 1 ≤ d) : X d 205 73 [vR (11534502, j0), vI x1, vI x2, vI x3] [vI xs1, vR (11534502, js0)] h Q ↔ Ev (d - 1) 208 [vR (11534502, js0), vI xs1, vI (nI 4), vI x1] h (XB d 205 75 3 [vR (11534502, j0), vI x1, vI x2, vI x3] [] Q) :=
  (X_icI i_205_73 kI_4).trans ((X_pure i_205_74 rfl).trans (X_cv hd i_205_75 v_205_53 rfl rfl rfl ⟨rfl, rfl⟩))
theorem b_205_78 {d : Nat} {j0 : Nat} {x1 : Int32} {x2 : Int32} {x3 : Int32} {h : HS} {Q : (List V ⊕ Pn) × HS → Prop} : X d 205 78 [vR (11534502, j0), vI x1, vI x2, vI x3] [] h Q ↔ if x3 = 0 then X d 205 99 [vR (11534502, j0), vI x1, vI x2, vI x3] [] (sI h 11534502 j0 5 ((gI h 11534502 j0 5) + (nI 1))) Q else X d 205 92 [vR (11534502, j0), vI x1, vI x2, vI x3] [] (sI h 11534502 j0 5 ((gI h 11534502 j0 5) + (nI 1))) Q :=
  (X_pure i_205_78 rfl).trans ((X_pure i_205_79 rfl).trans ((X_getI i_205_80 f_205_100).trans ((X_icI i_205_83 kI_1).trans ((X_pure i_205_84 rfl).trans ((X_putI i_205_85 f_205_100 o_205_11534502_5).trans ((X_pure i_205_88 rfl).trans (X_if_eq i_205_89 t_89_99)))))))
theorem b_205_92 {d : Nat} {j0 : Nat} {x1 : Int32} {x2 : Int32} {x3 : Int32} {h : HS} {Q : (List V ⊕ Pn) × HS → Prop} (hd : 1 ≤ d) : X d 205 92 [vR (11534502, j0), vI x1, vI x2, vI x3] [] h Q ↔ Ev (d - 1) 209 [vR (11534502, j0)] h (XB d 205 93 3 [vR (11534502, j0), vI x1, vI x2, vI x3] [] Q) :=
  (X_pure i_205_92 rfl).trans (X_cv hd i_205_93 v_205_103 rfl rfl rfl ⟨rfl, rfl⟩)
theorem b_205_96 {d : Nat} {j0 : Nat} {x1 : Int32} {x2 : Int32} {x3 : Int32} {h : HS} {Q : (List V ⊕ Pn) × HS → Prop} : X d 205 96 [vR (11534502, j0), vI x1, vI x2, vI x3] [] h Q ↔ X d 205 105 [vR (11534502, j0), vI x1, vI x2, vI x3] [] h Q :=
  (X_go i_205_96 t_96_105).trans (Iff.rfl)
theorem b_205_99 {d : Nat} {j0 : Nat} {x1 : Int32} {x2 : Int32} {x3 : Int32} {h : HS} {Q : (List V ⊕ Pn) × HS → Prop} (hd : 1 ≤ d) : X d 205 99 [vR (11534502, j0), vI x1, vI x2, vI x3] [] h Q ↔ Ev (d - 1) 224 [vR (11534502, j0), vI x2, vI x1] h (XB d 205 102 3 [vR (11534502, j0), vI x1, vI x2, vI x3] [] Q) :=
  (X_pure i_205_99 rfl).trans ((X_pure i_205_100 rfl).trans ((X_pure i_205_101 rfl).trans (X_cv hd i_205_102 v_205_106 rfl rfl rfl ⟨rfl, rfl⟩)))
theorem b_205_105 {d : Nat} {j0 : Nat} {x1 : Int32} {x2 : Int32} {x3 : Int32} {h : HS} {Q : (List V ⊕ Pn) × HS → Prop} : X d 205 105 [vR (11534502, j0), vI x1, vI x2, vI x3] [] h Q ↔ Q (.inl [], h) :=
  X_rv i_205_105 r_205
theorem c_205_1 {d : Nat} {L S : List V} {v : V} {h : HS} {Q : (List V ⊕ Pn) × HS → Prop} : XB d 205 1 3 L S Q (.inl [v], h) ↔ X d 205 4 L (v :: S) h Q := Iff.rfl
theorem c_205_8 {d : Nat} {L S : List V} {v : V} {h : HS} {Q : (List V ⊕ Pn) × HS → Prop} : XB d 205 8 3 L S Q (.inl [v], h) ↔ X d 205 11 L (v :: S) h Q := Iff.rfl
theorem c_205_17 {d : Nat} {L S : List V} {v : V} {h : HS} {Q : (List V ⊕ Pn) × HS → Prop} : XB d 205 17 3 L S Q (.inl [v], h) ↔ X d 205 20 L (v :: S) h Q := Iff.rfl
theorem c_205_26 {d : Nat} {L S : List V} {v : V} {h : HS} {Q : (List V ⊕ Pn) × HS → Prop} : XB d 205 26 3 L S Q (.inl [v], h) ↔ X d 205 29 L (v :: S) h Q := Iff.rfl
theorem c_205_55 {d : Nat} {L S : List V} {h : HS} {Q : (List V ⊕ Pn) × HS → Prop} : XB d 205 55 3 L S Q (.inl [], h) ↔ X d 205 58 L S h Q := Iff.rfl
theorem c_205_75 {d : Nat} {L S : List V} {h : HS} {Q : (List V ⊕ Pn) × HS → Prop} : XB d 205 75 3 L S Q (.inl [], h) ↔ X d 205 78 L S h Q := Iff.rfl
theorem c_205_93 {d : Nat} {L S : List V} {h : HS} {Q : (List V ⊕ Pn) × HS → Prop} : XB d 205 93 3 L S Q (.inl [], h) ↔ X d 205 96 L S h Q := Iff.rfl
theorem c_205_102 {d : Nat} {L S : List V} {h : HS} {Q : (List V ⊕ Pn) × HS → Prop} : XB d 205 102 3 L S Q (.inl [], h) ↔ X d 205 105 L S h Q := Iff.rfl
theorem e_205 {d : Nat} {x0 : Nat} {x1 : Int32} {h : HS} {Q : (List V ⊕ Pn) × HS → Prop} : Ev d 205 [vR (11534502, x0), vI x1] h Q ↔ X d 205 0 [vR (11534502, x0), vI x1, vU, vU] [] h Q := Iff.rfl
-- X10_plainHere
theorem b_206_0 {d : Nat} {j0 : Nat} {u1 : V} {h : HS} {Q : (List V ⊕ Pn) × HS → Prop} (nu1 : nl u1 = true) : X d 206 0 [vR (11534502, j0), u1] [] h Q ↔ X d 206 2 [vR (11534502, j0), vI (nI 0)] [] h Q :=
  (X_icI i_206_0 kI_0).trans ((X_soI i_206_1 rfl rfl nu1 rfl).trans (Iff.rfl))
theorem b_206_2 {d : Nat} {j0 : Nat} {x1 : Int32} {h : HS} {Q : (List V ⊕ Pn) × HS → Prop} (hS : Sh h) (hj0 : j0 < cn h 11534502) : X d 206 2 [vR (11534502, j0), vI x1] [] h Q ↔ if x1 < (nI 4) then X d 206 14 [vR (11534502, j0), vI x1] [] h Q else X d 206 38 [vR (11534502, j0), vI x1] [] h Q :=
  (X_pure i_206_2 rfl).trans ((X_pure i_206_3 rfl).trans ((X_getS i_206_4 f_206_3 (sht hS hj0)).trans ((X_getS i_206_7 f_206_83 (sh_8 hS)).trans ((X_len i_206_10 kl_30408773 (by decide)).trans (X_ic_ge i_206_11 t_11_38)))))
theorem b_206_14 {d : Nat} {j0 : Nat} {x1 : Int32} {h : HS} {Q : (List V ⊕ Pn) × HS → Prop} (hS : Sh h) (hd : 1 ≤ d) (hj0 : j0 < cn h 11534502) : X d 206 14 [vR (11534502, j0), vI x1] [] h Q ↔ inb x1 4 ∧ Ev (d - 1) 207 [vR (11534502, j0), vR (8, (13 + ix x1))] h (XB d 206 24 3 [vR (11534502, j0), vI x1] [] Q) :=
  (X_pure i_206_14 rfl).trans ((X_pure i_206_15 rfl).trans ((X_getS i_206_16 f_206_3 (sht hS hj0)).trans ((X_getS i_206_19 f_206_83 (sh_8 hS)).trans ((X_pure i_206_22 rfl).trans ((X_aldS i_206_23 kl_30408773 (by decide) (fun z => shp hS z)).trans (ac (X_cv hd i_206_24 v_206_66 rfl rfl rfl ⟨rfl, rfl⟩)))))))
theorem b_206_27 {d : Nat} {j0 : Nat} {x1 : Int32} {xs0 : Int32} {h : HS} {Q : (List V ⊕ Pn) × HS → Prop} : X d 206 27 [vR (11534502, j0), vI x1] [vI xs0] h Q ↔ if xs0 = 0 then X d 206 32 [vR (11534502, j0), vI x1] [] h Q else X d 206 30 [vR (11534502, j0), vI x1] [] h Q :=
  X_if_eq i_206_27 t_27_32
theorem b_206_30 {d : Nat} {j0 : Nat} {x1 : Int32} {h : HS} {Q : (List V ⊕ Pn) × HS → Prop} : X d 206 30 [vR (11534502, j0), vI x1] [] h Q ↔ Q (.inl [vI x1], h) :=
  (X_pure i_206_30 rfl).trans (X_ri i_206_31 r_206)
theorem b_206_32 {d : Nat} {j0 : Nat} {x1 : Int32} {h : HS} {Q : (List V ⊕ Pn) × HS → Prop} : X d 206 32 [vR (11534502, j0), vI x1] [] h Q ↔ X d 206 2 [vR (11534502, j0), vI (x1 + nI 1)] [] h Q :=
  (X_inc (x := x1) i_206_32 rfl kI_1 rfl).trans ((X_go i_206_35 t_35_2).trans (Iff.rfl))
theorem b_206_38 {d : Nat} {j0 : Nat} {x1 : Int32} {h : HS} {Q : (List V ⊕ Pn) × HS → Prop} (hd : 1 ≤ d) : X d 206 38 [vR (11534502, j0), vI x1] [] h Q ↔ Ev (d - 1) 207 [vR (11534502, j0), vR (8, 18)] h (XB d 206 41 3 [vR (11534502, j0), vI x1] [] Q) :=
  (X_pure i_206_38 rfl).trans ((X_ldc i_206_39 l_206_87 rfl).trans (X_cv hd i_206_41 v_206_66 rfl rfl rfl ⟨rfl, rfl⟩))
theorem b_206_44 {d : Nat} {j0 : Nat} {x1 : Int32} {xs0 : Int32} {h : HS} {Q : (List V ⊕ Pn) × HS → Prop} : X d 206 44 [vR (11534502, j0), vI x1] [vI xs0] h Q ↔ if xs0 = 0 then X d 206 51 [vR (11534502, j0), vI x1] [] h Q else X d 206 47 [vR (11534502, j0), vI x1] [] h Q :=
  X_if_eq i_206_44 t_44_51
theorem b_206_47 {d : Nat} {j0 : Nat} {x1 : Int32} {h : HS} {Q : (List V ⊕ Pn) × HS → Prop} : X d 206 47 [vR (11534502, j0), vI x1] [] h Q ↔ X d 206 65 [vR (11534502, j0), vI x1] [vI (nI 4)] h Q :=
  (X_icI i_206_47 kI_4).trans ((X_go i_206_48 t_48_65).trans (Iff.rfl))
theorem b_206_51 {d : Nat} {j0 : Nat} {x1 : Int32} {h : HS} {Q : (List V ⊕ Pn) × HS → Prop} (hd : 1 ≤ d) : X d 206 51 [vR (11534502, j0), vI x1] [] h Q ↔ Ev (d - 1) 207 [vR (11534502, j0), vR (8, 19)] h (XB d 206 54 3 [vR (11534502, j0), vI x1] [] Q) :=
  (X_pure i_206_51 rfl).trans ((X_ldc i_206_52 l_206_89 rfl).trans (X_cv hd i_206_54 v_206_66 rfl rfl rfl ⟨rfl, rfl⟩))
theorem b_206_57 {d : Nat} {j0 : Nat} {x1 : Int32} {xs0 : Int32} {h : HS} {Q : (List V ⊕ Pn) × HS → Prop} : X d 206 57 [vR (11534502, j0), vI x1] [vI xs0] h Q ↔ if xs0 = 0 then X d 206 64 [vR (11534502, j0), vI x1] [] h Q else X d 206 60 [vR (11534502, j0), vI x1] [] h Q :=
  X_if_eq i_206_57 t_57_64
theorem b_206_60 {d : Nat} {j0 : Nat} {x1 : Int32} {h : HS} {Q : (List V ⊕ Pn) × HS → Prop} : X d 206 60 [vR (11534502, j0), vI x1] [] h Q ↔ X d 206 65 [vR (11534502, j0), vI x1] [vI (nI 5)] h Q :=
  (X_icI i_206_60 kI_5).trans ((X_go i_206_61 t_61_65).trans (Iff.rfl))
theorem b_206_64 {d : Nat} {j0 : Nat} {x1 : Int32} {h : HS} {Q : (List V ⊕ Pn) × HS → Prop} : X d 206 64 [vR (11534502, j0), vI x1] [] h Q ↔ X d 206 65 [vR (11534502, j0), vI x1] [vI (-1)] h Q :=
  (X_icI i_206_64 kI_m1).trans (Iff.rfl)
theorem b_206_65 {d : Nat} {j0 : Nat} {x1 : Int32} {xs0 : Int32} {h : HS} {Q : (List V ⊕ Pn) × HS → Prop} : X d 206 65 [vR (11534502, j0), vI x1] [vI xs0] h Q ↔ Q (.inl [vI xs0], h) :=
  X_ri i_206_65 r_206
theorem c_206_24 {d : Nat} {L S : List V} {v : V} {h : HS} {Q : (List V ⊕ Pn) × HS → Prop} : XB d 206 24 3 L S Q (.inl [v], h) ↔ X d 206 27 L (v :: S) h Q := Iff.rfl
theorem c_206_41 {d : Nat} {L S : List V} {v : V} {h : HS} {Q : (List V ⊕ Pn) × HS → Prop} : XB d 206 41 3 L S Q (.inl [v], h) ↔ X d 206 44 L (v :: S) h Q := Iff.rfl
theorem c_206_54 {d : Nat} {L S : List V} {v : V} {h : HS} {Q : (List V ⊕ Pn) × HS → Prop} : XB d 206 54 3 L S Q (.inl [v], h) ↔ X d 206 57 L (v :: S) h Q := Iff.rfl
theorem e_206 {d : Nat} {x0 : Nat} {h : HS} {Q : (List V ⊕ Pn) × HS → Prop} : Ev d 206 [vR (11534502, x0)] h Q ↔ X d 206 0 [vR (11534502, x0), vU] [] h Q := Iff.rfl
-- X10_isWord
theorem b_207_0 {d : Nat} {j0 : Nat} {p1 : Pn} {u2 : V} {u3 : V} {u4 : V} {h : HS} {Q : (List V ⊕ Pn) × HS → Prop} (hd : 1 ≤ d) : X d 207 0 [vR (11534502, j0), vR p1, u2, u3, u4] [] h Q ↔ Ev (d - 1) 204 [vR (11534502, j0)] h (XB d 207 1 3 [vR (11534502, j0), vR p1, u2, u3, u4] [] Q) :=
  (X_pure i_207_0 rfl).trans (X_cv hd i_207_1 v_207_45 rfl rfl rfl ⟨rfl, rfl⟩)
theorem b_207_4 {d : Nat} {j0 : Nat} {p1 : Pn} {u2 : V} {u3 : V} {u4 : V} {xs0 : Int32} {h : HS} {Q : (List V ⊕ Pn) × HS → Prop} (nu2 : nl u2 = true) : X d 207 4 [vR (11534502, j0), vR p1, u2, u3, u4] [vI xs0] h Q ↔ X d 207 7 [vR (11534502, j0), vR p1, vI (nI 0), u3, u4] [] h Q :=
  (X_pure i_207_4 rfl).trans ((X_icI i_207_5 kI_0).trans ((X_soI i_207_6 rfl rfl nu2 rfl).trans (Iff.rfl)))
theorem b_207_7 {d : Nat} {j0 : Nat} {p1 : Pn} {x2 : Int32} {u3 : V} {u4 : V} {h : HS} {Q : (List V ⊕ Pn) × HS → Prop} (hS : Sh h) (hj0 : j0 < cn h 11534502) : X d 207 7 [vR (11534502, j0), vR p1, vI x2, u3, u4] [] h Q ↔ if ((gI h 11534502 j0 1) + x2) < (gI h 1048582 0 12) then X d 207 23 [vR (11534502, j0), vR p1, vI x2, u3, u4] [] h Q else X d 207 67 [vR (11534502, j0), vR p1, vI x2, u3, u4] [] h Q :=
  (X_pure i_207_7 rfl).trans ((X_getI i_207_8 f_207_35).trans ((X_pure i_207_11 rfl).trans ((X_pure i_207_12 rfl).trans ((X_pure i_207_13 rfl).trans ((X_getS i_207_14 f_207_3 (sht hS hj0)).trans ((X_getI i_207_17 f_207_38).trans (X_ic_ge i_207_20 t_20_67)))))))
theorem b_207_23 {d : Nat} {j0 : Nat} {p1 : Pn} {x2 : Int32} {u3 : V} {u4 : V} {h : HS} {Q : (List V ⊕ Pn) × HS → Prop} (hS : Sh h) (hj0 : j0 < cn h 11534502) : X d 207 23 [vR (11534502, j0), vR p1, vI x2, u3, u4] [] h Q ↔ inb ((gI h 11534502 j0 1) + x2) 400 ∧ (if (gI h 28317954 0 (ix ((gI h 11534502 j0 1) + x2))) < (nI 97) then X d 207 67 [vR (11534502, j0), vR p1, vI x2, u3, u4] [] h Q else X d 207 42 [vR (11534502, j0), vR p1, vI x2, u3, u4] [] h Q) :=
  (X_pure i_207_23 rfl).trans ((X_getS i_207_24 f_207_3 (sht hS hj0)).trans ((X_getS i_207_27 f_207_41 (sh_6 hS)).trans ((X_pure i_207_30 rfl).trans ((X_getI i_207_31 f_207_35).trans ((X_pure i_207_34 rfl).trans ((X_pure i_207_35 rfl).trans ((X_bald i_207_36 kl_28317954 (by decide)).trans (ac ((X_icB i_207_37 kB_97).trans (X_ic_lt i_207_39 t_39_67))))))))))
theorem b_207_42 {d : Nat} {j0 : Nat} {p1 : Pn} {x2 : Int32} {u3 : V} {u4 : V} {h : HS} {Q : (List V ⊕ Pn) × HS → Prop} (hS : Sh h) (hj0 : j0 < cn h 11534502) : X d 207 42 [vR (11534502, j0), vR p1, vI x2, u3, u4] [] h Q ↔ inb ((gI h 11534502 j0 1) + x2) 400 ∧ (if (nI 122) < (gI h 28317954 0 (ix ((gI h 11534502 j0 1) + x2))) then X d 207 67 [vR (11534502, j0), vR p1, vI x2, u3, u4] [] h Q else X d 207 61 [vR (11534502, j0), vR p1, vI x2, u3, u4] [] h Q) :=
  (X_pure i_207_42 rfl).trans ((X_getS i_207_43 f_207_3 (sht hS hj0)).trans ((X_getS i_207_46 f_207_41 (sh_6 hS)).trans ((X_pure i_207_49 rfl).trans ((X_getI i_207_50 f_207_35).trans ((X_pure i_207_53 rfl).trans ((X_pure i_207_54 rfl).trans ((X_bald i_207_55 kl_28317954 (by decide)).trans (ac ((X_icB i_207_56 kB_122).trans (X_ic_gt i_207_58 t_58_67))))))))))
theorem b_207_61 {d : Nat} {j0 : Nat} {p1 : Pn} {x2 : Int32} {u3 : V} {u4 : V} {h : HS} {Q : (List V ⊕ Pn) × HS → Prop} : X d 207 61 [vR (11534502, j0), vR p1, vI x2, u3, u4] [] h Q ↔ X d 207 7 [vR (11534502, j0), vR p1, vI (x2 + nI 1), u3, u4] [] h Q :=
  (X_inc (x := x2) i_207_61 rfl kI_1 rfl).trans ((X_go i_207_64 t_64_7).trans (Iff.rfl))
theorem b_207_67 {d : Nat} {j0 : Nat} {p1 : Pn} {x2 : Int32} {u3 : V} {u4 : V} {h : HS} {Q : (List V ⊕ Pn) × HS → Prop} (hd : 1 ≤ d) : X d 207 67 [vR (11534502, j0), vR p1, vI x2, u3, u4] [] h Q ↔ p1.1 = 8 ∧ Ev (d - 1) 253 [vR p1] h (XB d 207 69 3 [vR (11534502, j0), vR p1, vI x2, u3, u4] [vI x2] Q) :=
  (X_pure i_207_67 rfl).trans ((X_pure i_207_68 rfl).trans (X_cp hd i_207_69 v_207_57 rfl rfl rfl ⟨rfl, rfl⟩))
theorem b_207_72 {d : Nat} {j0 : Nat} {p1 : Pn} {x2 : Int32} {u3 : V} {u4 : V} {xs0 : Int32} {xs1 : Int32} {h : HS} {Q : (List V ⊕ Pn) × HS → Prop} : X d 207 72 [vR (11534502, j0), vR p1, vI x2, u3, u4] [vI xs1, vI xs0] h Q ↔ if xs0 = xs1 then X d 207 75 [vR (11534502, j0), vR p1, vI x2, u3, u4] [] h Q else X d 207 79 [vR (11534502, j0), vR p1, vI x2, u3, u4] [] h Q :=
  X_ic_ne i_207_72 t_72_79
theorem b_207_75 {d : Nat} {j0 : Nat} {p1 : Pn} {x2 : Int32} {u3 : V} {u4 : V} {h : HS} {Q : (List V ⊕ Pn) × HS → Prop} : X d 207 75 [vR (11534502, j0), vR p1, vI x2, u3, u4] [] h Q ↔ X d 207 80 [vR (11534502, j0), vR p1, vI x2, u3, u4] [vI (nI 1)] h Q :=
  (X_icI i_207_75 kI_1).trans ((X_go i_207_76 t_76_80).trans (Iff.rfl))
theorem b_207_79 {d : Nat} {j0 : Nat} {p1 : Pn} {x2 : Int32} {u3 : V} {u4 : V} {h : HS} {Q : (List V ⊕ Pn) × HS → Prop} : X d 207 79 [vR (11534502, j0), vR p1, vI x2, u3, u4] [] h Q ↔ X d 207 80 [vR (11534502, j0), vR p1, vI x2, u3, u4] [vI (nI 0)] h Q :=
  (X_icI i_207_79 kI_0).trans (Iff.rfl)
theorem b_207_80 {d : Nat} {j0 : Nat} {p1 : Pn} {x2 : Int32} {u3 : V} {u4 : V} {xs0 : Int32} {h : HS} {Q : (List V ⊕ Pn) × HS → Prop} (nu3 : nl u3 = true) (nu4 : nl u4 = true) : X d 207 80 [vR (11534502, j0), vR p1, vI x2, u3, u4] [vI xs0] h Q ↔ X d 207 84 [vR (11534502, j0), vR p1, vI x2, vI xs0, vI (nI 0)] [] h Q :=
  (X_soI i_207_80 rfl rfl nu3 rfl).trans ((X_icI i_207_81 kI_0).trans ((X_soI i_207_82 rfl rfl nu4 rfl).trans (Iff.rfl)))
theorem b_207_84 {d : Nat} {j0 : Nat} {p1 : Pn} {x2 : Int32} {x3 : Int32} {x4 : Int32} {h : HS} {Q : (List V ⊕ Pn) × HS → Prop} : X d 207 84 [vR (11534502, j0), vR p1, vI x2, vI x3, vI x4] [] h Q ↔ if x3 = 0 then X d 207 130 [vR (11534502, j0), vR p1, vI x2, vI x3, vI x4] [] h Q else X d 207 88 [vR (11534502, j0), vR p1, vI x2, vI x3, vI x4] [] h Q :=
  (X_pure i_207_84 rfl).trans (X_if_eq i_207_85 t_85_130)
theorem b_207_88 {d : Nat} {j0 : Nat} {p1 : Pn} {x2 : Int32} {x3 : Int32} {x4 : Int32} {h : HS} {Q : (List V ⊕ Pn) × HS → Prop} : X d 207 88 [vR (11534502, j0), vR p1, vI x2, vI x3, vI x4] [] h Q ↔ if x4 < x2 then X d 207 94 [vR (11534502, j0), vR p1, vI x2, vI x3, vI x4] [] h Q else X d 207 130 [vR (11534502, j0), vR p1, vI x2, vI x3, vI x4] [] h Q :=
  (X_pure i_207_88 rfl).trans ((X_pure i_207_90 rfl).trans (X_ic_ge i_207_91 t_91_130))
theorem b_207_94 {d : Nat} {j0 : Nat} {p1 : Pn} {x2 : Int32} {x3 : Int32} {x4 : Int32} {h : HS} {Q : (List V ⊕ Pn) × HS → Prop} (hd : 1 ≤ d) : X d 207 94 [vR (11534502, j0), vR p1, vI x2, vI x3, vI x4] [] h Q ↔ p1.1 = 8 ∧ Ev (d - 1) 255 [vR p1, vI x4] h (XB d 207 97 3 [vR (11534502, j0), vR p1, vI x2, vI x3, vI x4] [] Q) :=
  (X_pure i_207_94 rfl).trans ((X_pure i_207_95 rfl).trans (X_cp hd i_207_97 v_207_62 rfl rfl rfl ⟨rfl, rfl⟩))
theorem b_207_100 {d : Nat} {j0 : Nat} {p1 : Pn} {x2 : Int32} {x3 : Int32} {x4 : Int32} {xs0 : Int32} {h : HS} {Q : (List V ⊕ Pn) × HS → Prop} (hS : Sh h) (hj0 : j0 < cn h 11534502) : X d 207 100 [vR (11534502, j0), vR p1, vI x2, vI x3, vI x4] [vI xs0] h Q ↔ inb ((gI h 11534502 j0 1) + x4) 400 ∧ (if xs0 = (gI h 28317954 0 (ix ((gI h 11534502 j0 1) + x4))) then X d 207 118 [vR (11534502, j0), vR p1, vI x2, vI x3, vI x4] [] h Q else X d 207 122 [vR (11534502, j0), vR p1, vI x2, vI x3, vI x4] [] h Q) :=
  (X_pure i_207_100 rfl).trans ((X_getS i_207_101 f_207_3 (sht hS hj0)).trans ((X_getS i_207_104 f_207_41 (sh_6 hS)).trans ((X_pure i_207_107 rfl).trans ((X_getI i_207_108 f_207_35).trans ((X_pure i_207_111 rfl).trans ((X_pure i_207_113 rfl).trans ((X_bald i_207_114 kl_28317954 (by decide)).trans (ac (X_ic_ne i_207_115 t_115_122)))))))))
theorem b_207_118 {d : Nat} {j0 : Nat} {p1 : Pn} {x2 : Int32} {x3 : Int32} {x4 : Int32} {h : HS} {Q : (List V ⊕ Pn) × HS → Prop} : X d 207 118 [vR (11534502, j0), vR p1, vI x2, vI x3, vI x4] [] h Q ↔ X d 207 123 [vR (11534502, j0), vR p1, vI x2, vI x3, vI x4] [vI (nI 1)] h Q :=
  (X_icI i_207_118 kI_1).trans ((X_go i_207_119 t_119_123).trans (Iff.rfl))
theorem b_207_122 {d : Nat} {j0 : Nat} {p1 : Pn} {x2 : Int32} {x3 : Int32} {x4 : Int32} {h : HS} {Q : (List V ⊕ Pn) × HS → Prop} : X d 207 122 [vR (11534502, j0), vR p1, vI x2, vI x3, vI x4] [] h Q ↔ X d 207 123 [vR (11534502, j0), vR p1, vI x2, vI x3, vI x4] [vI (nI 0)] h Q :=
  (X_icI i_207_122 kI_0).trans (Iff.rfl)
theorem b_207_123 {d : Nat} {j0 : Nat} {p1 : Pn} {x2 : Int32} {x3 : Int32} {x4 : Int32} {xs0 : Int32} {h : HS} {Q : (List V ⊕ Pn) × HS → Prop} : X d 207 123 [vR (11534502, j0), vR p1, vI x2, vI x3, vI x4] [vI xs0] h Q ↔ X d 207 84 [vR (11534502, j0), vR p1, vI x2, vI xs0, vI (x4 + nI 1)] [] h Q :=
  (X_pure i_207_123 rfl).trans ((X_inc (x := x4) i_207_124 rfl kI_1 rfl).trans ((X_go i_207_127 t_127_84).trans (Iff.rfl)))
theorem b_207_130 {d : Nat} {j0 : Nat} {p1 : Pn} {x2 : Int32} {x3 : Int32} {x4 : Int32} {h : HS} {Q : (List V ⊕ Pn) × HS → Prop} : X d 207 130 [vR (11534502, j0), vR p1, vI x2, vI x3, vI x4] [] h Q ↔ (x3 = 0 ∨ x3 = 1) ∧ Q (.inl [vI x3], h) :=
  (X_pure i_207_130 rfl).trans (X_rz i_207_131 r_207)
theorem c_207_1 {d : Nat} {L S : List V} {v : V} {h : HS} {Q : (List V ⊕ Pn) × HS → Prop} : XB d 207 1 3 L S Q (.inl [v], h) ↔ X d 207 4 L (v :: S) h Q := Iff.rfl
theorem c_207_69 {d : Nat} {L S : List V} {v : V} {h : HS} {Q : (List V ⊕ Pn) × HS → Prop} : XB d 207 69 3 L S Q (.inl [v], h) ↔ X d 207 72 L (v :: S) h Q := Iff.rfl
theorem c_207_97 {d : Nat} {L S : List V} {v : V} {h : HS} {Q : (List V ⊕ Pn) × HS → Prop} : XB d 207 97 3 L S Q (.inl [v], h) ↔ X d 207 100 L (v :: S) h Q := Iff.rfl
theorem e_207 {d : Nat} {x0 : Nat} {x1 : Pn} {h : HS} {Q : (List V ⊕ Pn) × HS → Prop} : Ev d 207 [vR (11534502, x0), vR x1] h Q ↔ X d 207 0 [vR (11534502, x0), vR x1, vU, vU, vU] [] h Q := Iff.rfl
-- X10_demand
theorem b_208_0 {d : Nat} {j0 : Nat} {x1 : Int32} {x2 : Int32} {x3 : Int32} {h : HS} {Q : (List V ⊕ Pn) × HS → Prop} : X d 208 0 [vR (11534502, j0), vI x1, vI x2, vI x3] [] h Q ↔ if x1 = 0 then X d 208 5 [vR (11534502, j0), vI x1, vI x2, vI x3] [] h Q else X d 208 4 [vR (11534502, j0), vI x1, vI x2, vI x3] [] h Q :=
  (X_pure i_208_0 rfl).trans (X_if_eq i_208_1 t_1_5)
theorem b_208_4 {d : Nat} {j0 : Nat} {x1 : Int32} {x2 : Int32} {x3 : Int32} {h : HS} {Q : (List V ⊕ Pn) × HS → Prop} : X d 208 4 [vR (11534502, j0), vI x1, vI x2, vI x3] [] h Q ↔ Q (.inl [], h) :=
  X_rv i_208_4 r_208
theorem b_208_5 {d : Nat} {j0 : Nat} {x1 : Int32} {x2 : Int32} {x3 : Int32} {h : HS} {Q : (List V ⊕ Pn) × HS → Prop} (hS : Sh h) (hj0 : j0 < cn h 11534502) (hj1 : j0 < cn h 11534502) (hj2 : j0 < cn h 11534502) : X d 208 5 [vR (11534502, j0), vI x1, vI x2, vI x3] [] h Q ↔ Q (.inr (2097174, 0), sI (sI h 2097174 0 6 x2) 2097174 0 7 x3) :=
  (X_pure i_208_5 rfl).trans ((X_getS i_208_6 f_208_3 (sht hS hj0)).trans ((X_getS i_208_9 f_208_22 (sh_5 hS)).trans ((X_pure i_208_12 rfl).trans ((X_putI i_208_13 f_208_26 o_208_2097174_6).trans ((X_pure i_208_16 rfl).trans ((X_getS i_208_17 f_208_3 ((rR_I).trans (sht hS hj1))).trans ((X_getS i_208_20 f_208_22 ((rR_I).trans (sh_5 hS))).trans ((X_pure i_208_23 rfl).trans ((X_putI i_208_24 f_208_32 o_208_2097174_7).trans ((X_pure i_208_27 rfl).trans ((X_getS i_208_28 f_208_3 (((rR_I).trans (rR_I)).trans (sht hS hj2))).trans ((X_getS i_208_31 f_208_22 (((rR_I).trans (rR_I)).trans (sh_5 hS))).trans (X_th i_208_34 h_208_34)))))))))))))
theorem e_208 {d : Nat} {x0 : Nat} {x1 : Int32} {x2 : Int32} {x3 : Int32} {h : HS} {Q : (List V ⊕ Pn) × HS → Prop} : Ev d 208 [vR (11534502, x0), vI x1, vI x2, vI x3] h Q ↔ X d 208 0 [vR (11534502, x0), vI x1, vI x2, vI x3] [] h Q := Iff.rfl
-- X10_tested
theorem b_209_0 {d : Nat} {j0 : Nat} {u1 : V} {h : HS} {Q : (List V ⊕ Pn) × HS → Prop} (hd : 1 ≤ d) : X d 209 0 [vR (11534502, j0), u1] [] h Q ↔ Ev (d - 1) 210 [vR (11534502, j0), vR (8, 20)] h (XB d 209 3 3 [vR (11534502, j0), u1] [] Q) :=
  (X_pure i_209_0 rfl).trans ((X_ldc i_209_1 l_209_94 rfl).trans (X_cv hd i_209_3 v_209_135 rfl rfl rfl ⟨rfl, rfl⟩))
theorem b_209_6 {d : Nat} {j0 : Nat} {u1 : V} {xs0 : Int32} {h : HS} {Q : (List V ⊕ Pn) × HS → Prop} : X d 209 6 [vR (11534502, j0), u1] [vI xs0] h Q ↔ if xs0 = 0 then X d 209 42 [vR (11534502, j0), u1] [] h Q else X d 209 9 [vR (11534502, j0), u1] [] h Q :=
  X_if_eq i_209_6 t_6_42
theorem b_209_9 {d : Nat} {j0 : Nat} {u1 : V} {h : HS} {Q : (List V ⊕ Pn) × HS → Prop} (hd : 1 ≤ d) : X d 209 9 [vR (11534502, j0), u1] [] h Q ↔ Ev (d - 1) 211 [vR (11534502, j0), vI (nI 5)] h (XB d 209 11 3 [vR (11534502, j0), u1] [] Q) :=
  (X_pure i_209_9 rfl).trans ((X_icI i_209_10 kI_5).trans (X_cv hd i_209_11 v_209_120 rfl rfl rfl ⟨rfl, rfl⟩))
theorem b_209_14 {d : Nat} {j0 : Nat} {u1 : V} {xs0 : Int32} {h : HS} {Q : (List V ⊕ Pn) × HS → Prop} (hd : 1 ≤ d) (nu1 : nl u1 = true) : X d 209 14 [vR (11534502, j0), u1] [vI xs0] h Q ↔ Ev (d - 1) 210 [vR (11534502, j0), vR (8, 23)] h (XB d 209 24 3 [vR (11534502, j0), vI xs0] [vI xs0, vI (nI 0), vR (gR h 11534502 j0 0)] Q) :=
  (X_soI i_209_14 rfl rfl nu1 rfl).trans ((X_pure i_209_15 rfl).trans ((X_getR i_209_16 f_209_18).trans ((X_icI i_209_19 kI_0).trans ((X_pure i_209_20 rfl).trans ((X_pure i_209_21 rfl).trans ((X_ldc i_209_22 l_209_138 rfl).trans (X_cv hd i_209_24 v_209_135 rfl rfl rfl ⟨rfl, rfl⟩)))))))
theorem b_209_27 {d : Nat} {j0 : Nat} {x1 : Int32} {ps0 : Pn} {xs1 : Int32} {xs2 : Int32} {xs3 : Int32} {h : HS} {Q : (List V ⊕ Pn) × HS → Prop} : X d 209 27 [vR (11534502, j0), vI x1] [vI xs3, vI xs2, vI xs1, vR ps0] h Q ↔ if xs3 = 0 then X d 209 37 [vR (11534502, j0), vI x1] [vI xs2, vI xs1, vR ps0] h Q else X d 209 30 [vR (11534502, j0), vI x1] [vI xs2, vI xs1, vR ps0] h Q :=
  X_if_eq i_209_27 t_27_37
theorem b_209_30 {d : Nat} {j0 : Nat} {x1 : Int32} {ps0 : Pn} {xs1 : Int32} {xs2 : Int32} {h : HS} {Q : (List V ⊕ Pn) × HS → Prop} (hd : 1 ≤ d) : X d 209 30 [vR (11534502, j0), vI x1] [vI xs2, vI xs1, vR ps0] h Q ↔ Ev (d - 1) 213 [vR (11534502, j0)] h (XB d 209 31 3 [vR (11534502, j0), vI x1] [vI xs2, vI xs1, vR ps0] Q) :=
  (X_pure i_209_30 rfl).trans (X_cv hd i_209_31 v_209_140 rfl rfl rfl ⟨rfl, rfl⟩)
theorem b_209_34 {d : Nat} {j0 : Nat} {x1 : Int32} {ps0 : Pn} {xs1 : Int32} {xs2 : Int32} {ps3 : Pn} {h : HS} {Q : (List V ⊕ Pn) × HS → Prop} : X d 209 34 [vR (11534502, j0), vI x1] [vR ps3, vI xs2, vI xs1, vR ps0] h Q ↔ X d 209 38 [vR (11534502, j0), vI x1] [vR ps3, vI xs2, vI xs1, vR ps0] h Q :=
  (X_go i_209_34 t_34_38).trans (Iff.rfl)
theorem b_209_37 {d : Nat} {j0 : Nat} {x1 : Int32} {ps0 : Pn} {xs1 : Int32} {xs2 : Int32} {h : HS} {Q : (List V ⊕ Pn) × HS → Prop} : X d 209 37 [vR (11534502, j0), vI x1] [vI xs2, vI xs1, vR ps0] h Q ↔ X d 209 38 [vR (11534502, j0), vI x1] [vR (0, 0), vI xs2, vI xs1, vR ps0] h Q :=
  (X_pure i_209_37 rfl).trans (Iff.rfl)
theorem b_209_38 {d : Nat} {j0 : Nat} {x1 : Int32} {ps0 : Pn} {xs1 : Int32} {xs2 : Int32} {ps3 : Pn} {h : HS} {Q : (List V ⊕ Pn) × HS → Prop} (hd : 1 ≤ d) : X d 209 38 [vR (11534502, j0), vI x1] [vR ps3, vI xs2, vI xs1, vR ps0] h Q ↔ ps0.1 = 3145766 ∧ Ev (d - 1) 67 [vR ps0, vI xs1, vI xs2, vR ps3] h (XB d 209 38 3 [vR (11534502, j0), vI x1] [] Q) :=
  X_cp hd i_209_38 v_209_144 rfl rfl rfl ⟨rfl, rfl⟩
theorem b_209_41 {d : Nat} {j0 : Nat} {x1 : Int32} {h : HS} {Q : (List V ⊕ Pn) × HS → Prop} : X d 209 41 [vR (11534502, j0), vI x1] [] h Q ↔ Q (.inl [], h) :=
  X_rv i_209_41 r_209
theorem b_209_42 {d : Nat} {j0 : Nat} {u1 : V} {h : HS} {Q : (List V ⊕ Pn) × HS → Prop} (hd : 1 ≤ d) : X d 209 42 [vR (11534502, j0), u1] [] h Q ↔ Ev (d - 1) 210 [vR (11534502, j0), vR (8, 21)] h (XB d 209 45 3 [vR (11534502, j0), u1] [] Q) :=
  (X_pure i_209_42 rfl).trans ((X_ldc i_209_43 l_209_96 rfl).trans (X_cv hd i_209_45 v_209_135 rfl rfl rfl ⟨rfl, rfl⟩))
theorem b_209_48 {d : Nat} {j0 : Nat} {u1 : V} {xs0 : Int32} {h : HS} {Q : (List V ⊕ Pn) × HS → Prop} : X d 209 48 [vR (11534502, j0), u1] [vI xs0] h Q ↔ if xs0 = 0 then X d 209 55 [vR (11534502, j0), u1] [] h Q else X d 209 51 [vR (11534502, j0), u1] [] h Q :=
  X_if_eq i_209_48 t_48_55
theorem b_209_51 {d : Nat} {j0 : Nat} {u1 : V} {h : HS} {Q : (List V ⊕ Pn) × HS → Prop} : X d 209 51 [vR (11534502, j0), u1] [] h Q ↔ X d 209 56 [vR (11534502, j0), u1] [vI (nI 1)] h Q :=
  (X_icI i_209_51 kI_1).trans ((X_go i_209_52 t_52_56).trans (Iff.rfl))
theorem b_209_55 {d : Nat} {j0 : Nat} {u1 : V} {h : HS} {Q : (List V ⊕ Pn) × HS → Prop} : X d 209 55 [vR (11534502, j0), u1] [] h Q ↔ X d 209 56 [vR (11534502, j0), u1] [vI (nI 2)] h Q :=
  (X_icI i_209_55 kI_2).trans (Iff.rfl)
theorem b_209_56 {d : Nat} {j0 : Nat} {u1 : V} {xs0 : Int32} {h : HS} {Q : (List V ⊕ Pn) × HS → Prop} (nu1 : nl u1 = true) : X d 209 56 [vR (11534502, j0), u1] [vI xs0] h Q ↔ if xs0 = (nI 2) then X d 209 62 [vR (11534502, j0), vI xs0] [] h Q else X d 209 72 [vR (11534502, j0), vI xs0] [] h Q :=
  (X_soI i_209_56 rfl rfl nu1 rfl).trans ((X_pure i_209_57 rfl).trans ((X_icI i_209_58 kI_2).trans (X_ic_ne i_209_59 t_59_72)))
theorem b_209_62 {d : Nat} {j0 : Nat} {x1 : Int32} {h : HS} {Q : (List V ⊕ Pn) × HS → Prop} : X d 209 62 [vR (11534502, j0), vI x1] [] h Q ↔ X d 209 72 [vR (11534502, j0), vI x1] [] (sI h 11534502 j0 1 ((gI h 11534502 j0 1) + (nI 5))) Q :=
  (X_pure i_209_62 rfl).trans ((X_pure i_209_63 rfl).trans ((X_getI i_209_64 f_209_35).trans ((X_icI i_209_67 kI_5).trans ((X_pure i_209_68 rfl).trans ((X_putI i_209_69 f_209_35 o_209_11534502_1).trans (Iff.rfl))))))
theorem b_209_72 {d : Nat} {j0 : Nat} {x1 : Int32} {h : HS} {Q : (List V ⊕ Pn) × HS → Prop} (hd : 1 ≤ d) : X d 209 72 [vR (11534502, j0), vI x1] [] h Q ↔ Ev (d - 1) 210 [vR (11534502, j0), vR (8, 23)] h (XB d 209 76 3 [vR (11534502, j0), vI x1] [vR (11534502, j0)] Q) :=
  (X_pure i_209_72 rfl).trans ((X_pure i_209_73 rfl).trans ((X_ldc i_209_74 l_209_138 rfl).trans (X_cv hd i_209_76 v_209_135 rfl rfl rfl ⟨rfl, rfl⟩)))
theorem b_209_79 {d : Nat} {j0 : Nat} {x1 : Int32} {js0 : Nat} {xs1 : Int32} {h : HS} {Q : (List V ⊕ Pn) × HS → Prop} (hd : 1 ≤ d) : X d 209 79 [vR (11534502, j0), vI x1] [vI xs1, vR (11534502, js0)] h Q ↔ Ev (d - 1) 208 [vR (11534502, js0), vI xs1, vI (nI 0), vI (gI h 11534502 j0 1)] h (XB d 209 84 3 [vR (11534502, j0), vI x1] [] Q) :=
  (X_icI i_209_79 kI_0).trans ((X_pure i_209_80 rfl).trans ((X_getI i_209_81 f_209_35).trans (X_cv hd i_209_84 v_209_53 rfl rfl rfl ⟨rfl, rfl⟩)))
theorem b_209_87 {d : Nat} {j0 : Nat} {x1 : Int32} {h : HS} {Q : (List V ⊕ Pn) × HS → Prop} (hd : 1 ≤ d) : X d 209 87 [vR (11534502, j0), vI x1] [] h Q ↔ Ev (d - 1) 213 [vR (11534502, j0)] h (XB d 209 94 3 [vR (11534502, j0), vI x1] [vI (nI 0), vI x1, vR (gR h 11534502 j0 0)] Q) :=
  (X_pure i_209_87 rfl).trans ((X_getR i_209_88 f_209_18).trans ((X_pure i_209_91 rfl).trans ((X_icI i_209_92 kI_0).trans ((X_pure i_209_93 rfl).trans (X_cv hd i_209_94 v_209_140 rfl rfl rfl ⟨rfl, rfl⟩)))))
theorem b_209_97 {d : Nat} {j0 : Nat} {x1 : Int32} {ps0 : Pn} {xs1 : Int32} {xs2 : Int32} {ps3 : Pn} {h : HS} {Q : (List V ⊕ Pn) × HS → Prop} (hd : 1 ≤ d) : X d 209 97 [vR (11534502, j0), vI x1] [vR ps3, vI xs2, vI xs1, vR ps0] h Q ↔ ps0.1 = 3145766 ∧ Ev (d - 1) 67 [vR ps0, vI xs1, vI xs2, vR ps3] h (XB d 209 97 3 [vR (11534502, j0), vI x1] [] Q) :=
  X_cp hd i_209_97 v_209_144 rfl rfl rfl ⟨rfl, rfl⟩
theorem b_209_100 {d : Nat} {j0 : Nat} {x1 : Int32} {h : HS} {Q : (List V ⊕ Pn) × HS → Prop} : X d 209 100 [vR (11534502, j0), vI x1] [] h Q ↔ Q (.inl [], h) :=
  X_rv i_209_100 r_209
theorem c_209_3 {d : Nat} {L S : List V} {v : V} {h : HS} {Q : (List V ⊕ Pn) × HS → Prop} : XB d 209 3 3 L S Q (.inl [v], h) ↔ X d 209 6 L (v :: S) h Q := Iff.rfl
theorem c_209_11 {d : Nat} {L S : List V} {v : V} {h : HS} {Q : (List V ⊕ Pn) × HS → Prop} : XB d 209 11 3 L S Q (.inl [v], h) ↔ X d 209 14 L (v :: S) h Q := Iff.rfl
theorem c_209_24 {d : Nat} {L S : List V} {v : V} {h : HS} {Q : (List V ⊕ Pn) × HS → Prop} : XB d 209 24 3 L S Q (.inl [v], h) ↔ X d 209 27 L (v :: S) h Q := Iff.rfl
theorem c_209_31 {d : Nat} {L S : List V} {v : V} {h : HS} {Q : (List V ⊕ Pn) × HS → Prop} : XB d 209 31 3 L S Q (.inl [v], h) ↔ X d 209 34 L (v :: S) h Q := Iff.rfl
theorem c_209_38 {d : Nat} {L S : List V} {h : HS} {Q : (List V ⊕ Pn) × HS → Prop} : XB d 209 38 3 L S Q (.inl [], h) ↔ X d 209 41 L S h Q := Iff.rfl
theorem c_209_45 {d : Nat} {L S : List V} {v : V} {h : HS} {Q : (List V ⊕ Pn) × HS → Prop} : XB d 209 45 3 L S Q (.inl [v], h) ↔ X d 209 48 L (v :: S) h Q := Iff.rfl
theorem c_209_76 {d : Nat} {L S : List V} {v : V} {h : HS} {Q : (List V ⊕ Pn) × HS → Prop} : XB d 209 76 3 L S Q (.inl [v], h) ↔ X d 209 79 L (v :: S) h Q := Iff.rfl
theorem c_209_84 {d : Nat} {L S : List V} {h : HS} {Q : (List V ⊕ Pn) × HS → Prop} : XB d 209 84 3 L S Q (.inl [], h) ↔ X d 209 87 L S h Q := Iff.rfl
theorem c_209_94 {d : Nat} {L S : List V} {v : V} {h : HS} {Q : (List V ⊕ Pn) × HS → Prop} : XB d 209 94 3 L S Q (.inl [v], h) ↔ X d 209 97 L (v :: S) h Q := Iff.rfl
theorem c_209_97 {d : Nat} {L S : List V} {h : HS} {Q : (List V ⊕ Pn) × HS → Prop} : XB d 209 97 3 L S Q (.inl [], h) ↔ X d 209 100 L S h Q := Iff.rfl
theorem e_209 {d : Nat} {x0 : Nat} {h : HS} {Q : (List V ⊕ Pn) × HS → Prop} : Ev d 209 [vR (11534502, x0)] h Q ↔ X d 209 0 [vR (11534502, x0), vU] [] h Q := Iff.rfl
-- X10_takesWord
theorem b_210_0 {d : Nat} {j0 : Nat} {p1 : Pn} {h : HS} {Q : (List V ⊕ Pn) × HS → Prop} (hd : 1 ≤ d) : X d 210 0 [vR (11534502, j0), vR p1] [] h Q ↔ Ev (d - 1) 207 [vR (11534502, j0), vR p1] h (XB d 210 2 3 [vR (11534502, j0), vR p1] [] Q) :=
  (X_pure i_210_0 rfl).trans ((X_pure i_210_1 rfl).trans (X_cv hd i_210_2 v_210_66 rfl rfl rfl ⟨rfl, rfl⟩))
theorem b_210_5 {d : Nat} {j0 : Nat} {p1 : Pn} {xs0 : Int32} {h : HS} {Q : (List V ⊕ Pn) × HS → Prop} : X d 210 5 [vR (11534502, j0), vR p1] [vI xs0] h Q ↔ if xs0 = 0 then X d 210 8 [vR (11534502, j0), vR p1] [] h Q else X d 210 10 [vR (11534502, j0), vR p1] [] h Q :=
  X_if_ne i_210_5 t_5_10
theorem b_210_8 {d : Nat} {j0 : Nat} {p1 : Pn} {h : HS} {Q : (List V ⊕ Pn) × HS → Prop} : X d 210 8 [vR (11534502, j0), vR p1] [] h Q ↔ ((nI 0) = 0 ∨ (nI 0) = 1) ∧ Q (.inl [vI (nI 0)], h) :=
  (X_icI i_210_8 kI_0).trans (X_rz i_210_9 r_210)
theorem b_210_10 {d : Nat} {j0 : Nat} {p1 : Pn} {h : HS} {Q : (List V ⊕ Pn) × HS → Prop} (hd : 1 ≤ d) : X d 210 10 [vR (11534502, j0), vR p1] [] h Q ↔ p1.1 = 8 ∧ Ev (d - 1) 253 [vR p1] h (XB d 210 16 3 [vR (11534502, j0), vR p1] [vI (gI h 11534502 j0 1), vR (11534502, j0)] Q) :=
  (X_pure i_210_10 rfl).trans ((X_pure i_210_11 rfl).trans ((X_getI i_210_12 f_210_35).trans ((X_pure i_210_15 rfl).trans (X_cp hd i_210_16 v_210_57 rfl rfl rfl ⟨rfl, rfl⟩))))
theorem b_210_19 {d : Nat} {j0 : Nat} {p1 : Pn} {js0 : Nat} {xs1 : Int32} {xs2 : Int32} {h : HS} {Q : (List V ⊕ Pn) × HS → Prop} : X d 210 19 [vR (11534502, j0), vR p1] [vI xs2, vI xs1, vR (11534502, js0)] h Q ↔ ((nI 1) = 0 ∨ (nI 1) = 1) ∧ Q (.inl [vI (nI 1)], sI h 11534502 js0 1 (xs1 + xs2)) :=
  (X_pure i_210_19 rfl).trans ((X_putI i_210_20 f_210_35 o_210_11534502_1).trans ((X_icI i_210_23 kI_1).trans (X_rz i_210_24 r_210)))
theorem c_210_2 {d : Nat} {L S : List V} {v : V} {h : HS} {Q : (List V ⊕ Pn) × HS → Prop} : XB d 210 2 3 L S Q (.inl [v], h) ↔ X d 210 5 L (v :: S) h Q := Iff.rfl
theorem c_210_16 {d : Nat} {L S : List V} {v : V} {h : HS} {Q : (List V ⊕ Pn) × HS → Prop} : XB d 210 16 3 L S Q (.inl [v], h) ↔ X d 210 19 L (v :: S) h Q := Iff.rfl
theorem e_210 {d : Nat} {x0 : Nat} {x1 : Pn} {h : HS} {Q : (List V ⊕ Pn) × HS → Prop} : Ev d 210 [vR (11534502, x0), vR x1] h Q ↔ X d 210 0 [vR (11534502, x0), vR x1] [] h Q := Iff.rfl
-- X10_number
theorem b_211_0 {d : Nat} {j0 : Nat} {x1 : Int32} {u2 : V} {u3 : V} {h : HS} {Q : (List V ⊕ Pn) × HS → Prop} (hd : 1 ≤ d) : X d 211 0 [vR (11534502, j0), vI x1, u2, u3] [] h Q ↔ Ev (d - 1) 204 [vR (11534502, j0)] h (XB d 211 3 3 [vR (11534502, j0), vI x1, u2, u3] [vR (11534502, j0), vR (11534502, j0)] Q) :=
  (X_pure i_211_0 rfl).trans ((X_pure i_211_1 rfl).trans ((X_pure i_211_2 rfl).trans (X_cv hd i_211_3 v_211_45 rfl rfl rfl ⟨rfl, rfl⟩)))
theorem b_211_6 {d : Nat} {j0 : Nat} {x1 : Int32} {u2 : V} {u3 : V} {js0 : Nat} {js1 : Nat} {xs2 : Int32} {h : HS} {Q : (List V ⊕ Pn) × HS → Prop} (hd : 1 ≤ d) : X d 211 6 [vR (11534502, j0), vI x1, u2, u3] [vI xs2, vR (11534502, js1), vR (11534502, js0)] h Q ↔ Ev (d - 1) 212 [vR (11534502, js1), vI xs2] h (XB d 211 6 3 [vR (11534502, j0), vI x1, u2, u3] [vR (11534502, js0)] Q) :=
  X_cv hd i_211_6 v_211_70 rfl rfl rfl ⟨rfl, rfl⟩
theorem b_211_9 {d : Nat} {j0 : Nat} {x1 : Int32} {u2 : V} {u3 : V} {js0 : Nat} {xs1 : Int32} {h : HS} {Q : (List V ⊕ Pn) × HS → Prop} (hd : 1 ≤ d) : X d 211 9 [vR (11534502, j0), vI x1, u2, u3] [vI xs1, vR (11534502, js0)] h Q ↔ Ev (d - 1) 208 [vR (11534502, js0), vI xs1, vI (nI 0), vI (gI h 11534502 j0 1)] h (XB d 211 14 3 [vR (11534502, j0), vI x1, u2, u3] [] Q) :=
  (X_icI i_211_9 kI_0).trans ((X_pure i_211_10 rfl).trans ((X_getI i_211_11 f_211_35).trans (X_cv hd i_211_14 v_211_53 rfl rfl rfl ⟨rfl, rfl⟩)))
theorem b_211_17 {d : Nat} {j0 : Nat} {x1 : Int32} {u2 : V} {u3 : V} {h : HS} {Q : (List V ⊕ Pn) × HS → Prop} (nu2 : nl u2 = true) (nu3 : nl u3 = true) : X d 211 17 [vR (11534502, j0), vI x1, u2, u3] [] h Q ↔ X d 211 24 [vR (11534502, j0), vI x1, vI (gI h 11534502 j0 1), vI (nI 0)] [] h Q :=
  (X_pure i_211_17 rfl).trans ((X_getI i_211_18 f_211_35).trans ((X_soI i_211_21 rfl rfl nu2 rfl).trans ((X_icI i_211_22 kI_0).trans ((X_soI i_211_23 rfl rfl nu3 rfl).trans (Iff.rfl)))))
theorem b_211_24 {d : Nat} {j0 : Nat} {x1 : Int32} {x2 : Int32} {x3 : Int32} {h : HS} {Q : (List V ⊕ Pn) × HS → Prop} (hS : Sh h) (hj0 : j0 < cn h 11534502) : X d 211 24 [vR (11534502, j0), vI x1, vI x2, vI x3] [] h Q ↔ if (gI h 11534502 j0 1) < (gI h 1048582 0 12) then X d 211 38 [vR (11534502, j0), vI x1, vI x2, vI x3] [] h Q else X d 211 101 [vR (11534502, j0), vI x1, vI x2, vI x3] [] h Q :=
  (X_pure i_211_24 rfl).trans ((X_getI i_211_25 f_211_35).trans ((X_pure i_211_28 rfl).trans ((X_getS i_211_29 f_211_3 (sht hS hj0)).trans ((X_getI i_211_32 f_211_38).trans (X_ic_ge i_211_35 t_35_101)))))
theorem b_211_38 {d : Nat} {j0 : Nat} {x1 : Int32} {x2 : Int32} {x3 : Int32} {h : HS} {Q : (List V ⊕ Pn) × HS → Prop} (hS : Sh h) (hd : 1 ≤ d) (hj0 : j0 < cn h 11534502) : X d 211 38 [vR (11534502, j0), vI x1, vI x2, vI x3] [] h Q ↔ inb (gI h 11534502 j0 1) 400 ∧ Ev (d - 1) 212 [vR (11534502, j0), vI (gI h 28317954 0 (ix (gI h 11534502 j0 1)))] h (XB d 211 51 3 [vR (11534502, j0), vI x1, vI x2, vI x3] [] Q) :=
  (X_pure i_211_38 rfl).trans ((X_pure i_211_39 rfl).trans ((X_getS i_211_40 f_211_3 (sht hS hj0)).trans ((X_getS i_211_43 f_211_41 (sh_6 hS)).trans ((X_pure i_211_46 rfl).trans ((X_getI i_211_47 f_211_35).trans ((X_bald i_211_50 kl_28317954 (by decide)).trans (ac (X_cv hd i_211_51 v_211_70 rfl rfl rfl ⟨rfl, rfl⟩))))))))
theorem b_211_54 {d : Nat} {j0 : Nat} {x1 : Int32} {x2 : Int32} {x3 : Int32} {xs0 : Int32} {h : HS} {Q : (List V ⊕ Pn) × HS → Prop} : X d 211 54 [vR (11534502, j0), vI x1, vI x2, vI x3] [vI xs0] h Q ↔ if xs0 = 0 then X d 211 101 [vR (11534502, j0), vI x1, vI x2, vI x3] [] h Q else X d 211 57 [vR (11534502, j0), vI x1, vI x2, vI x3] [] h Q :=
  X_if_eq i_211_54 t_54_101
theorem b_211_57 {d : Nat} {j0 : Nat} {x1 : Int32} {x2 : Int32} {x3 : Int32} {h : HS} {Q : (List V ⊕ Pn) × HS → Prop} : X d 211 57 [vR (11534502, j0), vI x1, vI x2, vI x3] [] h Q ↔ if ((gI h 11534502 j0 1) - x2) < (nI 5) then X d 211 67 [vR (11534502, j0), vI x1, vI x2, vI x3] [] h Q else X d 211 88 [vR (11534502, j0), vI x1, vI x2, vI x3] [] h Q :=
  (X_pure i_211_57 rfl).trans ((X_getI i_211_58 f_211_35).trans ((X_pure i_211_61 rfl).trans ((X_pure i_211_62 rfl).trans ((X_icI i_211_63 kI_5).trans (X_ic_ge i_211_64 t_64_88)))))
theorem b_211_67 {d : Nat} {j0 : Nat} {x1 : Int32} {x2 : Int32} {x3 : Int32} {h : HS} {Q : (List V ⊕ Pn) × HS → Prop} (hS : Sh h) (hj0 : j0 < cn h 11534502) : X d 211 67 [vR (11534502, j0), vI x1, vI x2, vI x3] [] h Q ↔ inb (gI h 11534502 j0 1) 400 ∧ X d 211 88 [vR (11534502, j0), vI x1, vI x2, vI ((((nI 10) * x3) + (gI h 28317954 0 (ix (gI h 11534502 j0 1)))) - (nI 48))] [] h Q :=
  (X_icB i_211_67 kB_10).trans ((X_pure i_211_69 rfl).trans ((X_pure i_211_70 rfl).trans ((X_pure i_211_71 rfl).trans ((X_getS i_211_72 f_211_3 (sht hS hj0)).trans ((X_getS i_211_75 f_211_41 (sh_6 hS)).trans ((X_pure i_211_78 rfl).trans ((X_getI i_211_79 f_211_35).trans ((X_bald i_211_82 kl_28317954 (by decide)).trans (ac ((X_pure i_211_83 rfl).trans ((X_icB i_211_84 kB_48).trans ((X_pure i_211_86 rfl).trans ((X_pure i_211_87 rfl).trans (Iff.rfl))))))))))))))
theorem b_211_88 {d : Nat} {j0 : Nat} {x1 : Int32} {x2 : Int32} {x3 : Int32} {h : HS} {Q : (List V ⊕ Pn) × HS → Prop} : X d 211 88 [vR (11534502, j0), vI x1, vI x2, vI x3] [] h Q ↔ X d 211 24 [vR (11534502, j0), vI x1, vI x2, vI x3] [] (sI h 11534502 j0 1 ((gI h 11534502 j0 1) + (nI 1))) Q :=
  (X_pure i_211_88 rfl).trans ((X_pure i_211_89 rfl).trans ((X_getI i_211_90 f_211_35).trans ((X_icI i_211_93 kI_1).trans ((X_pure i_211_94 rfl).trans ((X_putI i_211_95 f_211_35 o_211_11534502_1).trans ((X_go i_211_98 t_98_24).trans (Iff.rfl)))))))
theorem b_211_101 {d : Nat} {j0 : Nat} {x1 : Int32} {x2 : Int32} {x3 : Int32} {h : HS} {Q : (List V ⊕ Pn) × HS → Prop} : X d 211 101 [vR (11534502, j0), vI x1, vI x2, vI x3] [] h Q ↔ if (nI 5) < ((gI h 11534502 j0 1) - x2) then X d 211 121 [vR (11534502, j0), vI x1, vI x2, vI x3] [vR (11534502, j0)] h Q else X d 211 112 [vR (11534502, j0), vI x1, vI x2, vI x3] [vR (11534502, j0)] h Q :=
  (X_pure i_211_101 rfl).trans ((X_pure i_211_102 rfl).trans ((X_getI i_211_103 f_211_35).trans ((X_pure i_211_106 rfl).trans ((X_pure i_211_107 rfl).trans ((X_icI i_211_108 kI_5).trans (X_ic_gt i_211_109 t_109_121))))))
theorem b_211_112 {d : Nat} {j0 : Nat} {x1 : Int32} {x2 : Int32} {x3 : Int32} {js0 : Nat} {h : HS} {Q : (List V ⊕ Pn) × HS → Prop} : X d 211 112 [vR (11534502, j0), vI x1, vI x2, vI x3] [vR (11534502, js0)] h Q ↔ if x1 < x3 then X d 211 121 [vR (11534502, j0), vI x1, vI x2, vI x3] [vR (11534502, js0)] h Q else X d 211 117 [vR (11534502, j0), vI x1, vI x2, vI x3] [vR (11534502, js0)] h Q :=
  (X_pure i_211_112 rfl).trans ((X_pure i_211_113 rfl).trans (X_ic_gt i_211_114 t_114_121))
theorem b_211_117 {d : Nat} {j0 : Nat} {x1 : Int32} {x2 : Int32} {x3 : Int32} {js0 : Nat} {h : HS} {Q : (List V ⊕ Pn) × HS → Prop} : X d 211 117 [vR (11534502, j0), vI x1, vI x2, vI x3] [vR (11534502, js0)] h Q ↔ X d 211 122 [vR (11534502, j0), vI x1, vI x2, vI x3] [vI (nI 1), vR (11534502, js0)] h Q :=
  (X_icI i_211_117 kI_1).trans ((X_go i_211_118 t_118_122).trans (Iff.rfl))
theorem b_211_121 {d : Nat} {j0 : Nat} {x1 : Int32} {x2 : Int32} {x3 : Int32} {js0 : Nat} {h : HS} {Q : (List V ⊕ Pn) × HS → Prop} : X d 211 121 [vR (11534502, j0), vI x1, vI x2, vI x3] [vR (11534502, js0)] h Q ↔ X d 211 122 [vR (11534502, j0), vI x1, vI x2, vI x3] [vI (nI 0), vR (11534502, js0)] h Q :=
  (X_icI i_211_121 kI_0).trans (Iff.rfl)
theorem b_211_122 {d : Nat} {j0 : Nat} {x1 : Int32} {x2 : Int32} {x3 : Int32} {js0 : Nat} {xs1 : Int32} {h : HS} {Q : (List V ⊕ Pn) × HS → Prop} (hd : 1 ≤ d) : X d 211 122 [vR (11534502, j0), vI x1, vI x2, vI x3] [vI xs1, vR (11534502, js0)] h Q ↔ Ev (d - 1) 208 [vR (11534502, js0), vI xs1, vI (nI 1), vI x2] h (XB d 211 124 3 [vR (11534502, j0), vI x1, vI x2, vI x3] [] Q) :=
  (X_icI i_211_122 kI_1).trans ((X_pure i_211_123 rfl).trans (X_cv hd i_211_124 v_211_53 rfl rfl rfl ⟨rfl, rfl⟩))
theorem b_211_127 {d : Nat} {j0 : Nat} {x1 : Int32} {x2 : Int32} {x3 : Int32} {h : HS} {Q : (List V ⊕ Pn) × HS → Prop} : X d 211 127 [vR (11534502, j0), vI x1, vI x2, vI x3] [] h Q ↔ Q (.inl [vI x3], h) :=
  (X_pure i_211_127 rfl).trans (X_ri i_211_128 r_211)
theorem c_211_3 {d : Nat} {L S : List V} {v : V} {h : HS} {Q : (List V ⊕ Pn) × HS → Prop} : XB d 211 3 3 L S Q (.inl [v], h) ↔ X d 211 6 L (v :: S) h Q := Iff.rfl
theorem c_211_6 {d : Nat} {L S : List V} {v : V} {h : HS} {Q : (List V ⊕ Pn) × HS → Prop} : XB d 211 6 3 L S Q (.inl [v], h) ↔ X d 211 9 L (v :: S) h Q := Iff.rfl
theorem c_211_14 {d : Nat} {L S : List V} {h : HS} {Q : (List V ⊕ Pn) × HS → Prop} : XB d 211 14 3 L S Q (.inl [], h) ↔ X d 211 17 L S h Q := Iff.rfl
theorem c_211_51 {d : Nat} {L S : List V} {v : V} {h : HS} {Q : (List V ⊕ Pn) × HS → Prop} : XB d 211 51 3 L S Q (.inl [v], h) ↔ X d 211 54 L (v :: S) h Q := Iff.rfl
theorem c_211_124 {d : Nat} {L S : List V} {h : HS} {Q : (List V ⊕ Pn) × HS → Prop} : XB d 211 124 3 L S Q (.inl [], h) ↔ X d 211 127 L S h Q := Iff.rfl
theorem e_211 {d : Nat} {x0 : Nat} {x1 : Int32} {h : HS} {Q : (List V ⊕ Pn) × HS → Prop} : Ev d 211 [vR (11534502, x0), vI x1] h Q ↔ X d 211 0 [vR (11534502, x0), vI x1, vU, vU] [] h Q := Iff.rfl
-- X10_isDigit
theorem b_212_0 {d : Nat} {j0 : Nat} {x1 : Int32} {h : HS} {Q : (List V ⊕ Pn) × HS → Prop} : X d 212 0 [vR (11534502, j0), vI x1] [] h Q ↔ if x1 < (nI 48) then X d 212 16 [vR (11534502, j0), vI x1] [] h Q else X d 212 6 [vR (11534502, j0), vI x1] [] h Q :=
  (X_pure i_212_0 rfl).trans ((X_icB i_212_1 kB_48).trans (X_ic_lt i_212_3 t_3_16))
theorem b_212_6 {d : Nat} {j0 : Nat} {x1 : Int32} {h : HS} {Q : (List V ⊕ Pn) × HS → Prop} : X d 212 6 [vR (11534502, j0), vI x1] [] h Q ↔ if (nI 57) < x1 then X d 212 16 [vR (11534502, j0), vI x1] [] h Q else X d 212 12 [vR (11534502, j0), vI x1] [] h Q :=
  (X_pure i_212_6 rfl).trans ((X_icB i_212_7 kB_57).trans (X_ic_gt i_212_9 t_9_16))
theorem b_212_12 {d : Nat} {j0 : Nat} {x1 : Int32} {h : HS} {Q : (List V ⊕ Pn) × HS → Prop} : X d 212 12 [vR (11534502, j0), vI x1] [] h Q ↔ X d 212 17 [vR (11534502, j0), vI x1] [vI (nI 1)] h Q :=
  (X_icI i_212_12 kI_1).trans ((X_go i_212_13 t_13_17).trans (Iff.rfl))
theorem b_212_16 {d : Nat} {j0 : Nat} {x1 : Int32} {h : HS} {Q : (List V ⊕ Pn) × HS → Prop} : X d 212 16 [vR (11534502, j0), vI x1] [] h Q ↔ X d 212 17 [vR (11534502, j0), vI x1] [vI (nI 0)] h Q :=
  (X_icI i_212_16 kI_0).trans (Iff.rfl)
theorem b_212_17 {d : Nat} {j0 : Nat} {x1 : Int32} {xs0 : Int32} {h : HS} {Q : (List V ⊕ Pn) × HS → Prop} : X d 212 17 [vR (11534502, j0), vI x1] [vI xs0] h Q ↔ (xs0 = 0 ∨ xs0 = 1) ∧ Q (.inl [vI xs0], h) :=
  X_rz i_212_17 r_212
theorem e_212 {d : Nat} {x0 : Nat} {x1 : Int32} {h : HS} {Q : (List V ⊕ Pn) × HS → Prop} : Ev d 212 [vR (11534502, x0), vI x1] h Q ↔ X d 212 0 [vR (11534502, x0), vI x1] [] h Q := Iff.rfl
-- X10_test
theorem b_213_0 {d : Nat} {j0 : Nat} {u1 : V} {h : HS} {Q : (List V ⊕ Pn) × HS → Prop} (hd : 1 ≤ d) : X d 213 0 [vR (11534502, j0), u1] [] h Q ↔ Ev (d - 1) 214 [vR (11534502, j0)] h (XB d 213 1 3 [vR (11534502, j0), u1] [] Q) :=
  (X_pure i_213_0 rfl).trans (X_cv hd i_213_1 v_213_148 rfl rfl rfl ⟨rfl, rfl⟩)
theorem b_213_4 {d : Nat} {j0 : Nat} {u1 : V} {ps0 : Pn} {h : HS} {Q : (List V ⊕ Pn) × HS → Prop} (nu1 : nl u1 = true) : X d 213 4 [vR (11534502, j0), u1] [vR ps0] h Q ↔ X d 213 5 [vR (11534502, j0), vR ps0] [] h Q :=
  (X_soR i_213_4 rfl rfl nu1 rfl).trans (Iff.rfl)
theorem b_213_5 {d : Nat} {j0 : Nat} {p1 : Pn} {h : HS} {Q : (List V ⊕ Pn) × HS → Prop} (hd : 1 ≤ d) : X d 213 5 [vR (11534502, j0), vR p1] [] h Q ↔ Ev (d - 1) 210 [vR (11534502, j0), vR (8, 24)] h (XB d 213 8 3 [vR (11534502, j0), vR p1] [] Q) :=
  (X_pure i_213_5 rfl).trans ((X_ldc i_213_6 l_213_151 rfl).trans (X_cv hd i_213_8 v_213_135 rfl rfl rfl ⟨rfl, rfl⟩))
theorem b_213_11 {d : Nat} {j0 : Nat} {p1 : Pn} {xs0 : Int32} {h : HS} {Q : (List V ⊕ Pn) × HS → Prop} : X d 213 11 [vR (11534502, j0), vR p1] [vI xs0] h Q ↔ if xs0 = 0 then X d 213 31 [vR (11534502, j0), vR p1] [] h Q else X d 213 14 [vR (11534502, j0), vR p1] [] h Q :=
  X_if_eq i_213_11 t_11_31
theorem b_213_14 {d : Nat} {j0 : Nat} {p1 : Pn} {h : HS} {Q : (List V ⊕ Pn) × HS → Prop} (hd : 1 ≤ d) : X d 213 14 [vR (11534502, j0), vR p1] [] h Q ↔ (nc h + 1 ≤ NCL ∧ ns h + 3 ≤ NSL) ∧ Ev (d - 1) 214 [vR (11534502, j0)] (al h 17826086 3) (XB d 213 21 3 [vR (11534502, j0), vR p1] [vI (nI 0), vR p1, vR (17826086, (cn h 17826086)), vR (17826086, (cn h 17826086))] Q) :=
  (X_newc i_213_14 n_213_153 (rfl)).trans (ac ((X_pure i_213_17 rfl).trans ((X_pure i_213_18 rfl).trans ((X_icI i_213_19 kI_0).trans ((X_pure i_213_20 rfl).trans (X_cv hd i_213_21 v_213_148 rfl rfl rfl ⟨rfl, rfl⟩))))))
theorem b_213_24 {d : Nat} {j0 : Nat} {p1 : Pn} {js0 : Nat} {js1 : Nat} {ps2 : Pn} {xs3 : Int32} {ps4 : Pn} {h : HS} {Q : (List V ⊕ Pn) × HS → Prop} (hd : 1 ≤ d) : X d 213 24 [vR (11534502, j0), vR p1] [vR ps4, vI xs3, vR ps2, vR (17826086, js1), vR (17826086, js0)] h Q ↔ Ev (d - 1) 237 [vR (17826086, js1), vR ps2, vI xs3, vR ps4] h (XB d 213 24 3 [vR (11534502, j0), vR p1] [vR (17826086, js0)] Q) :=
  X_ci hd i_213_24 v_213_155 rfl (Nat.le_of_ble_eq_true rfl) rfl rfl ⟨rfl, rfl⟩
theorem b_213_27 {d : Nat} {j0 : Nat} {p1 : Pn} {js0 : Nat} {h : HS} {Q : (List V ⊕ Pn) × HS → Prop} : X d 213 27 [vR (11534502, j0), vR p1] [vR (17826086, js0)] h Q ↔ X d 213 5 [vR (11534502, j0), vR (17826086, js0)] [] h Q :=
  (X_pure i_213_27 rfl).trans ((X_go i_213_28 t_28_5).trans (Iff.rfl))
theorem b_213_31 {d : Nat} {j0 : Nat} {p1 : Pn} {h : HS} {Q : (List V ⊕ Pn) × HS → Prop} : X d 213 31 [vR (11534502, j0), vR p1] [] h Q ↔ Q (.inl [vR p1], h) :=
  (X_pure i_213_31 rfl).trans (X_ra i_213_32 r_213)
theorem c_213_1 {d : Nat} {L S : List V} {v : V} {h : HS} {Q : (List V ⊕ Pn) × HS → Prop} : XB d 213 1 3 L S Q (.inl [v], h) ↔ X d 213 4 L (v :: S) h Q := Iff.rfl
theorem c_213_8 {d : Nat} {L S : List V} {v : V} {h : HS} {Q : (List V ⊕ Pn) × HS → Prop} : XB d 213 8 3 L S Q (.inl [v], h) ↔ X d 213 11 L (v :: S) h Q := Iff.rfl
theorem c_213_21 {d : Nat} {L S : List V} {v : V} {h : HS} {Q : (List V ⊕ Pn) × HS → Prop} : XB d 213 21 3 L S Q (.inl [v], h) ↔ X d 213 24 L (v :: S) h Q := Iff.rfl
theorem c_213_24 {d : Nat} {L S : List V} {h : HS} {Q : (List V ⊕ Pn) × HS → Prop} : XB d 213 24 3 L S Q (.inl [], h) ↔ X d 213 27 L S h Q := Iff.rfl
theorem e_213 {d : Nat} {x0 : Nat} {h : HS} {Q : (List V ⊕ Pn) × HS → Prop} : Ev d 213 [vR (11534502, x0)] h Q ↔ X d 213 0 [vR (11534502, x0), vU] [] h Q := Iff.rfl
-- X10_part
theorem b_214_0 {d : Nat} {j0 : Nat} {u1 : V} {h : HS} {Q : (List V ⊕ Pn) × HS → Prop} (hd : 1 ≤ d) : X d 214 0 [vR (11534502, j0), u1] [] h Q ↔ Ev (d - 1) 215 [vR (11534502, j0)] h (XB d 214 1 3 [vR (11534502, j0), u1] [] Q) :=
  (X_pure i_214_0 rfl).trans (X_cv hd i_214_1 v_214_158 rfl rfl rfl ⟨rfl, rfl⟩)
theorem b_214_4 {d : Nat} {j0 : Nat} {u1 : V} {ps0 : Pn} {h : HS} {Q : (List V ⊕ Pn) × HS → Prop} (nu1 : nl u1 = true) : X d 214 4 [vR (11534502, j0), u1] [vR ps0] h Q ↔ X d 214 5 [vR (11534502, j0), vR ps0] [] h Q :=
  (X_soR i_214_4 rfl rfl nu1 rfl).trans (Iff.rfl)
theorem b_214_5 {d : Nat} {j0 : Nat} {p1 : Pn} {h : HS} {Q : (List V ⊕ Pn) × HS → Prop} (hd : 1 ≤ d) : X d 214 5 [vR (11534502, j0), vR p1] [] h Q ↔ Ev (d - 1) 210 [vR (11534502, j0), vR (8, 25)] h (XB d 214 8 3 [vR (11534502, j0), vR p1] [] Q) :=
  (X_pure i_214_5 rfl).trans ((X_ldc i_214_6 l_214_161 rfl).trans (X_cv hd i_214_8 v_214_135 rfl rfl rfl ⟨rfl, rfl⟩))
theorem b_214_11 {d : Nat} {j0 : Nat} {p1 : Pn} {xs0 : Int32} {h : HS} {Q : (List V ⊕ Pn) × HS → Prop} : X d 214 11 [vR (11534502, j0), vR p1] [vI xs0] h Q ↔ if xs0 = 0 then X d 214 31 [vR (11534502, j0), vR p1] [] h Q else X d 214 14 [vR (11534502, j0), vR p1] [] h Q :=
  X_if_eq i_214_11 t_11_31
theorem b_214_14 {d : Nat} {j0 : Nat} {p1 : Pn} {h : HS} {Q : (List V ⊕ Pn) × HS → Prop} (hd : 1 ≤ d) : X d 214 14 [vR (11534502, j0), vR p1] [] h Q ↔ (nc h + 1 ≤ NCL ∧ ns h + 3 ≤ NSL) ∧ Ev (d - 1) 215 [vR (11534502, j0)] (al h 17826086 3) (XB d 214 21 3 [vR (11534502, j0), vR p1] [vI (nI 1), vR p1, vR (17826086, (cn h 17826086)), vR (17826086, (cn h 17826086))] Q) :=
  (X_newc i_214_14 n_214_153 (rfl)).trans (ac ((X_pure i_214_17 rfl).trans ((X_pure i_214_18 rfl).trans ((X_icI i_214_19 kI_1).trans ((X_pure i_214_20 rfl).trans (X_cv hd i_214_21 v_214_158 rfl rfl rfl ⟨rfl, rfl⟩))))))
theorem b_214_24 {d : Nat} {j0 : Nat} {p1 : Pn} {js0 : Nat} {js1 : Nat} {ps2 : Pn} {xs3 : Int32} {ps4 : Pn} {h : HS} {Q : (List V ⊕ Pn) × HS → Prop} (hd : 1 ≤ d) : X d 214 24 [vR (11534502, j0), vR p1] [vR ps4, vI xs3, vR ps2, vR (17826086, js1), vR (17826086, js0)] h Q ↔ Ev (d - 1) 237 [vR (17826086, js1), vR ps2, vI xs3, vR ps4] h (XB d 214 24 3 [vR (11534502, j0), vR p1] [vR (17826086, js0)] Q) :=
  X_ci hd i_214_24 v_214_155 rfl (Nat.le_of_ble_eq_true rfl) rfl rfl ⟨rfl, rfl⟩
theorem b_214_27 {d : Nat} {j0 : Nat} {p1 : Pn} {js0 : Nat} {h : HS} {Q : (List V ⊕ Pn) × HS → Prop} : X d 214 27 [vR (11534502, j0), vR p1] [vR (17826086, js0)] h Q ↔ X d 214 5 [vR (11534502, j0), vR (17826086, js0)] [] h Q :=
  (X_pure i_214_27 rfl).trans ((X_go i_214_28 t_28_5).trans (Iff.rfl))
theorem b_214_31 {d : Nat} {j0 : Nat} {p1 : Pn} {h : HS} {Q : (List V ⊕ Pn) × HS → Prop} : X d 214 31 [vR (11534502, j0), vR p1] [] h Q ↔ Q (.inl [vR p1], h) :=
  (X_pure i_214_31 rfl).trans (X_ra i_214_32 r_214)
theorem c_214_1 {d : Nat} {L S : List V} {v : V} {h : HS} {Q : (List V ⊕ Pn) × HS → Prop} : XB d 214 1 3 L S Q (.inl [v], h) ↔ X d 214 4 L (v :: S) h Q := Iff.rfl
theorem c_214_8 {d : Nat} {L S : List V} {v : V} {h : HS} {Q : (List V ⊕ Pn) × HS → Prop} : XB d 214 8 3 L S Q (.inl [v], h) ↔ X d 214 11 L (v :: S) h Q := Iff.rfl
theorem c_214_21 {d : Nat} {L S : List V} {v : V} {h : HS} {Q : (List V ⊕ Pn) × HS → Prop} : XB d 214 21 3 L S Q (.inl [v], h) ↔ X d 214 24 L (v :: S) h Q := Iff.rfl
theorem c_214_24 {d : Nat} {L S : List V} {h : HS} {Q : (List V ⊕ Pn) × HS → Prop} : XB d 214 24 3 L S Q (.inl [], h) ↔ X d 214 27 L S h Q := Iff.rfl
theorem e_214 {d : Nat} {x0 : Nat} {h : HS} {Q : (List V ⊕ Pn) × HS → Prop} : Ev d 214 [vR (11534502, x0)] h Q ↔ X d 214 0 [vR (11534502, x0), vU] [] h Q := Iff.rfl
-- X10_fact
theorem b_215_0 {d : Nat} {j0 : Nat} {u1 : V} {u2 : V} {u3 : V} {u4 : V} {u5 : V} {h : HS} {Q : (List V ⊕ Pn) × HS → Prop} (hd : 1 ≤ d) : X d 215 0 [vR (11534502, j0), u1, u2, u3, u4, u5] [] h Q ↔ Ev (d - 1) 204 [vR (11534502, j0)] h (XB d 215 1 3 [vR (11534502, j0), u1, u2, u3, u4, u5] [] Q) :=
  (X_pure i_215_0 rfl).trans (X_cv hd i_215_1 v_215_45 rfl rfl rfl ⟨rfl, rfl⟩)
theorem b_215_4 {d : Nat} {j0 : Nat} {u1 : V} {u2 : V} {u3 : V} {u4 : V} {u5 : V} {xs0 : Int32} {h : HS} {Q : (List V ⊕ Pn) × HS → Prop} (hd : 1 ≤ d) (nu1 : nl u1 = true) (nu2 : nl u2 = true) : X d 215 4 [vR (11534502, j0), u1, u2, u3, u4, u5] [vI xs0] h Q ↔ Ev (d - 1) 207 [vR (11534502, j0), vR (8, 26)] h (XB d 215 13 3 [vR (11534502, j0), vI xs0, vI (gI h 11534502 j0 1), u3, u4, u5] [] Q) :=
  (X_soI i_215_4 rfl rfl nu1 rfl).trans ((X_pure i_215_5 rfl).trans ((X_getI i_215_6 f_215_35).trans ((X_soI i_215_9 rfl rfl nu2 rfl).trans ((X_pure i_215_10 rfl).trans ((X_ldc i_215_11 l_215_163 rfl).trans (X_cv hd i_215_13 v_215_66 rfl rfl rfl ⟨rfl, rfl⟩))))))
theorem b_215_16 {d : Nat} {j0 : Nat} {x1 : Int32} {x2 : Int32} {u3 : V} {u4 : V} {u5 : V} {xs0 : Int32} {h : HS} {Q : (List V ⊕ Pn) × HS → Prop} : X d 215 16 [vR (11534502, j0), vI x1, vI x2, u3, u4, u5] [vI xs0] h Q ↔ if xs0 = 0 then X d 215 58 [vR (11534502, j0), vI x1, vI x2, u3, u4, u5] [] h Q else X d 215 19 [vR (11534502, j0), vI x1, vI x2, u3, u4, u5] [] h Q :=
  X_if_eq i_215_16 t_16_58
theorem b_215_19 {d : Nat} {j0 : Nat} {x1 : Int32} {x2 : Int32} {u3 : V} {u4 : V} {u5 : V} {h : HS} {Q : (List V ⊕ Pn) × HS → Prop} (hd : 1 ≤ d) : X d 215 19 [vR (11534502, j0), vI x1, vI x2, u3, u4, u5] [] h Q ↔ Ev (d - 1) 216 [vR (11534502, j0), vI x2] h (XB d 215 21 3 [vR (11534502, j0), vI x1, vI x2, u3, u4, u5] [] Q) :=
  (X_pure i_215_19 rfl).trans ((X_pure i_215_20 rfl).trans (X_cv hd i_215_21 v_215_165 rfl rfl rfl ⟨rfl, rfl⟩))
theorem b_215_24 {d : Nat} {j0 : Nat} {x1 : Int32} {x2 : Int32} {u3 : V} {u4 : V} {u5 : V} {h : HS} {Q : (List V ⊕ Pn) × HS → Prop} (hd : 1 ≤ d) : X d 215 24 [vR (11534502, j0), vI x1, vI x2, u3, u4, u5] [] h Q ↔ (nc (sI h 11534502 j0 1 ((gI h 11534502 j0 1) + (nI 3))) + 1 ≤ NCL ∧ ns (sI h 11534502 j0 1 ((gI h 11534502 j0 1) + (nI 3))) + 1 ≤ NSL) ∧ Ev (d - 1) 215 [vR (11534502, j0)] (al (sI h 11534502 j0 1 ((gI h 11534502 j0 1) + (nI 3))) 12583110 1) (XB d 215 39 3 [vR (11534502, j0), vI x1, vI x2, u3, u4, u5] [vR (12583110, (cn h 12583110)), vR (12583110, (cn h 12583110))] Q) :=
  (X_pure i_215_24 rfl).trans ((X_pure i_215_25 rfl).trans ((X_getI i_215_26 f_215_35).trans ((X_icI i_215_29 kI_3).trans ((X_pure i_215_30 rfl).trans ((X_putI i_215_31 f_215_35 o_215_11534502_1).trans ((X_newc i_215_34 n_215_168 (rc_I)).trans (ac ((X_pure i_215_37 rfl).trans ((X_pure i_215_38 rfl).trans (X_cv hd i_215_39 v_215_158 rfl rfl rfl ⟨rfl, rfl⟩))))))))))
theorem b_215_42 {d : Nat} {j0 : Nat} {x1 : Int32} {x2 : Int32} {u3 : V} {u4 : V} {u5 : V} {js0 : Nat} {js1 : Nat} {ps2 : Pn} {h : HS} {Q : (List V ⊕ Pn) × HS → Prop} (hd : 1 ≤ d) : X d 215 42 [vR (11534502, j0), vI x1, vI x2, u3, u4, u5] [vR ps2, vR (12583110, js1), vR (12583110, js0)] h Q ↔ Ev (d - 1) 226 [vR (12583110, js1), vR ps2] h (XB d 215 42 3 [vR (11534502, j0), vI x1, vI x2, u3, u4, u5] [vR (12583110, js0)] Q) :=
  X_ci hd i_215_42 v_215_170 rfl (Nat.le_of_ble_eq_true rfl) rfl rfl ⟨rfl, rfl⟩
theorem b_215_45 {d : Nat} {j0 : Nat} {x1 : Int32} {x2 : Int32} {u3 : V} {u4 : V} {u5 : V} {js0 : Nat} {h : HS} {Q : (List V ⊕ Pn) × HS → Prop} (nu3 : nl u3 = true) : X d 215 45 [vR (11534502, j0), vI x1, vI x2, u3, u4, u5] [vR (12583110, js0)] h Q ↔ Q (.inl [vR (12583110, js0)], sI h 11534502 j0 2 ((gI h 11534502 j0 2) - (nI 1))) :=
  (X_soR i_215_45 rfl rfl nu3 rfl).trans ((X_pure i_215_46 rfl).trans ((X_pure i_215_47 rfl).trans ((X_getI i_215_48 f_215_76).trans ((X_icI i_215_51 kI_1).trans ((X_pure i_215_52 rfl).trans ((X_putI i_215_53 f_215_76 o_215_11534502_2).trans ((X_pure i_215_56 rfl).trans (X_ra i_215_57 r_215))))))))
theorem b_215_58 {d : Nat} {j0 : Nat} {x1 : Int32} {x2 : Int32} {u3 : V} {u4 : V} {u5 : V} {h : HS} {Q : (List V ⊕ Pn) × HS → Prop} : X d 215 58 [vR (11534502, j0), vI x1, vI x2, u3, u4, u5] [] h Q ↔ if x1 = (nI 91) then X d 215 64 [vR (11534502, j0), vI x1, vI x2, u3, u4, u5] [] h Q else X d 215 102 [vR (11534502, j0), vI x1, vI x2, u3, u4, u5] [] h Q :=
  (X_pure i_215_58 rfl).trans ((X_icB i_215_59 kB_91).trans (X_ic_ne i_215_61 t_61_102))
theorem b_215_64 {d : Nat} {j0 : Nat} {x1 : Int32} {x2 : Int32} {u3 : V} {u4 : V} {u5 : V} {h : HS} {Q : (List V ⊕ Pn) × HS → Prop} (hd : 1 ≤ d) : X d 215 64 [vR (11534502, j0), vI x1, vI x2, u3, u4, u5] [] h Q ↔ Ev (d - 1) 216 [vR (11534502, j0), vI x2] h (XB d 215 66 3 [vR (11534502, j0), vI x1, vI x2, u3, u4, u5] [] Q) :=
  (X_pure i_215_64 rfl).trans ((X_pure i_215_65 rfl).trans (X_cv hd i_215_66 v_215_165 rfl rfl rfl ⟨rfl, rfl⟩))
theorem b_215_69 {d : Nat} {j0 : Nat} {x1 : Int32} {x2 : Int32} {u3 : V} {u4 : V} {u5 : V} {h : HS} {Q : (List V ⊕ Pn) × HS → Prop} (hd : 1 ≤ d) : X d 215 69 [vR (11534502, j0), vI x1, vI x2, u3, u4, u5] [] h Q ↔ Ev (d - 1) 213 [vR (11534502, j0)] (sI h 11534502 j0 1 ((gI h 11534502 j0 1) + (nI 1))) (XB d 215 80 3 [vR (11534502, j0), vI x1, vI x2, u3, u4, u5] [] Q) :=
  (X_pure i_215_69 rfl).trans ((X_pure i_215_70 rfl).trans ((X_getI i_215_71 f_215_35).trans ((X_icI i_215_74 kI_1).trans ((X_pure i_215_75 rfl).trans ((X_putI i_215_76 f_215_35 o_215_11534502_1).trans ((X_pure i_215_79 rfl).trans (X_cv hd i_215_80 v_215_140 rfl rfl rfl ⟨rfl, rfl⟩)))))))
theorem b_215_83 {d : Nat} {j0 : Nat} {x1 : Int32} {x2 : Int32} {u3 : V} {u4 : V} {u5 : V} {ps0 : Pn} {h : HS} {Q : (List V ⊕ Pn) × HS → Prop} (hd : 1 ≤ d) (nu3 : nl u3 = true) : X d 215 83 [vR (11534502, j0), vI x1, vI x2, u3, u4, u5] [vR ps0] h Q ↔ Ev (d - 1) 217 [vR (11534502, j0), vI (nI 93)] h (XB d 215 87 3 [vR (11534502, j0), vI x1, vI x2, vR ps0, u4, u5] [] Q) :=
  (X_soR i_215_83 rfl rfl nu3 rfl).trans ((X_pure i_215_84 rfl).trans ((X_icB i_215_85 kB_93).trans (X_cv hd i_215_87 v_215_173 rfl rfl rfl ⟨rfl, rfl⟩)))
theorem b_215_90 {d : Nat} {j0 : Nat} {x1 : Int32} {x2 : Int32} {p3 : Pn} {u4 : V} {u5 : V} {h : HS} {Q : (List V ⊕ Pn) × HS → Prop} : X d 215 90 [vR (11534502, j0), vI x1, vI x2, vR p3, u4, u5] [] h Q ↔ Q (.inl [vR p3], sI h 11534502 j0 2 ((gI h 11534502 j0 2) - (nI 1))) :=
  (X_pure i_215_90 rfl).trans ((X_pure i_215_91 rfl).trans ((X_getI i_215_92 f_215_76).trans ((X_icI i_215_95 kI_1).trans ((X_pure i_215_96 rfl).trans ((X_putI i_215_97 f_215_76 o_215_11534502_2).trans ((X_pure i_215_100 rfl).trans (X_ra i_215_101 r_215)))))))
theorem b_215_102 {d : Nat} {j0 : Nat} {x1 : Int32} {x2 : Int32} {u3 : V} {u4 : V} {u5 : V} {h : HS} {Q : (List V ⊕ Pn) × HS → Prop} (hd : 1 ≤ d) : X d 215 102 [vR (11534502, j0), vI x1, vI x2, u3, u4, u5] [] h Q ↔ Ev (d - 1) 219 [vR (11534502, j0)] h (XB d 215 103 3 [vR (11534502, j0), vI x1, vI x2, u3, u4, u5] [] Q) :=
  (X_pure i_215_102 rfl).trans (X_cv hd i_215_103 v_215_128 rfl rfl rfl ⟨rfl, rfl⟩)
theorem b_215_106 {d : Nat} {j0 : Nat} {x1 : Int32} {x2 : Int32} {u3 : V} {u4 : V} {u5 : V} {ps0 : Pn} {h : HS} {Q : (List V ⊕ Pn) × HS → Prop} (hd : 1 ≤ d) (nu3 : nl u3 = true) : X d 215 106 [vR (11534502, j0), vI x1, vI x2, u3, u4, u5] [vR ps0] h Q ↔ Ev (d - 1) 204 [vR (11534502, j0)] h (XB d 215 108 3 [vR (11534502, j0), vI x1, vI x2, vR ps0, u4, u5] [] Q) :=
  (X_soR i_215_106 rfl rfl nu3 rfl).trans ((X_pure i_215_107 rfl).trans (X_cv hd i_215_108 v_215_45 rfl rfl rfl ⟨rfl, rfl⟩))
theorem b_215_111 {d : Nat} {j0 : Nat} {x1 : Int32} {x2 : Int32} {p3 : Pn} {u4 : V} {u5 : V} {xs0 : Int32} {h : HS} {Q : (List V ⊕ Pn) × HS → Prop} (hd : 1 ≤ d) (nu4 : nl u4 = true) : X d 215 111 [vR (11534502, j0), vI x1, vI x2, vR p3, u4, u5] [vI xs0] h Q ↔ Ev (d - 1) 223 [vR (11534502, j0)] h (XB d 215 119 3 [vR (11534502, j0), vI x1, vI x2, vR p3, vI (gI h 11534502 j0 1), u5] [] Q) :=
  (X_pure i_215_111 rfl).trans ((X_pure i_215_112 rfl).trans ((X_getI i_215_113 f_215_35).trans ((X_soI i_215_116 rfl rfl nu4 rfl).trans ((X_pure i_215_118 rfl).trans (X_cv hd i_215_119 v_215_176 rfl rfl rfl ⟨rfl, rfl⟩)))))
theorem b_215_122 {d : Nat} {j0 : Nat} {x1 : Int32} {x2 : Int32} {p3 : Pn} {x4 : Int32} {u5 : V} {xs0 : Int32} {h : HS} {Q : (List V ⊕ Pn) × HS → Prop} (hd : 1 ≤ d) (nu5 : nl u5 = true) : X d 215 122 [vR (11534502, j0), vI x1, vI x2, vR p3, vI x4, u5] [vI xs0] h Q ↔ Ev (d - 1) 222 [vR (11534502, j0), vI x4] h (XB d 215 127 3 [vR (11534502, j0), vI x1, vI x2, vR p3, vI x4, vI xs0] [] Q) :=
  (X_soI i_215_122 rfl rfl nu5 rfl).trans ((X_pure i_215_124 rfl).trans ((X_pure i_215_125 rfl).trans (X_cv hd i_215_127 v_215_179 rfl rfl rfl ⟨rfl, rfl⟩)))
theorem b_215_130 {d : Nat} {j0 : Nat} {x1 : Int32} {x2 : Int32} {p3 : Pn} {x4 : Int32} {x5 : Int32} {h : HS} {Q : (List V ⊕ Pn) × HS → Prop} (hd : 1 ≤ d) : X d 215 130 [vR (11534502, j0), vI x1, vI x2, vR p3, vI x4, vI x5] [] h Q ↔ (nc h + 1 ≤ NCL ∧ ns h + 3 ≤ NSL) ∧ Ev (d - 1) 219 [vR (11534502, j0)] (al h 16777494 3) (XB d 215 138 3 [vR (11534502, j0), vI x1, vI x2, vR p3, vI x4, vI x5] [vI x5, vR p3, vR (16777494, (cn h 16777494)), vR (16777494, (cn h 16777494))] Q) :=
  (X_newc i_215_130 n_215_182 (rfl)).trans (ac ((X_pure i_215_133 rfl).trans ((X_pure i_215_134 rfl).trans ((X_pure i_215_135 rfl).trans ((X_pure i_215_137 rfl).trans (X_cv hd i_215_138 v_215_128 rfl rfl rfl ⟨rfl, rfl⟩))))))
theorem b_215_141 {d : Nat} {j0 : Nat} {x1 : Int32} {x2 : Int32} {p3 : Pn} {x4 : Int32} {x5 : Int32} {js0 : Nat} {js1 : Nat} {ps2 : Pn} {xs3 : Int32} {ps4 : Pn} {h : HS} {Q : (List V ⊕ Pn) × HS → Prop} (hd : 1 ≤ d) : X d 215 141 [vR (11534502, j0), vI x1, vI x2, vR p3, vI x4, vI x5] [vR ps4, vI xs3, vR ps2, vR (16777494, js1), vR (16777494, js0)] h Q ↔ Ev (d - 1) 235 [vR (16777494, js1), vR ps2, vI xs3, vR ps4] h (XB d 215 141 3 [vR (11534502, j0), vI x1, vI x2, vR p3, vI x4, vI x5] [vR (16777494, js0)] Q) :=
  X_ci hd i_215_141 v_215_184 rfl (Nat.le_of_ble_eq_true rfl) rfl rfl ⟨rfl, rfl⟩
theorem b_215_144 {d : Nat} {j0 : Nat} {x1 : Int32} {x2 : Int32} {p3 : Pn} {x4 : Int32} {x5 : Int32} {js0 : Nat} {h : HS} {Q : (List V ⊕ Pn) × HS → Prop} : X d 215 144 [vR (11534502, j0), vI x1, vI x2, vR p3, vI x4, vI x5] [vR (16777494, js0)] h Q ↔ Q (.inl [vR (16777494, js0)], h) :=
  X_ra i_215_144 r_215
theorem c_215_1 {d : Nat} {L S : List V} {v : V} {h : HS} {Q : (List V ⊕ Pn) × HS → Prop} : XB d 215 1 3 L S Q (.inl [v], h) ↔ X d 215 4 L (v :: S) h Q := Iff.rfl
theorem c_215_13 {d : Nat} {L S : List V} {v : V} {h : HS} {Q : (List V ⊕ Pn) × HS → Prop} : XB d 215 13 3 L S Q (.inl [v], h) ↔ X d 215 16 L (v :: S) h Q := Iff.rfl
theorem c_215_21 {d : Nat} {L S : List V} {h : HS} {Q : (List V ⊕ Pn) × HS → Prop} : XB d 215 21 3 L S Q (.inl [], h) ↔ X d 215 24 L S h Q := Iff.rfl
theorem c_215_39 {d : Nat} {L S : List V} {v : V} {h : HS} {Q : (List V ⊕ Pn) × HS → Prop} : XB d 215 39 3 L S Q (.inl [v], h) ↔ X d 215 42 L (v :: S) h Q := Iff.rfl
theorem c_215_42 {d : Nat} {L S : List V} {h : HS} {Q : (List V ⊕ Pn) × HS → Prop} : XB d 215 42 3 L S Q (.inl [], h) ↔ X d 215 45 L S h Q := Iff.rfl
theorem c_215_66 {d : Nat} {L S : List V} {h : HS} {Q : (List V ⊕ Pn) × HS → Prop} : XB d 215 66 3 L S Q (.inl [], h) ↔ X d 215 69 L S h Q := Iff.rfl
theorem c_215_80 {d : Nat} {L S : List V} {v : V} {h : HS} {Q : (List V ⊕ Pn) × HS → Prop} : XB d 215 80 3 L S Q (.inl [v], h) ↔ X d 215 83 L (v :: S) h Q := Iff.rfl
theorem c_215_87 {d : Nat} {L S : List V} {h : HS} {Q : (List V ⊕ Pn) × HS → Prop} : XB d 215 87 3 L S Q (.inl [], h) ↔ X d 215 90 L S h Q := Iff.rfl
theorem c_215_103 {d : Nat} {L S : List V} {v : V} {h : HS} {Q : (List V ⊕ Pn) × HS → Prop} : XB d 215 103 3 L S Q (.inl [v], h) ↔ X d 215 106 L (v :: S) h Q := Iff.rfl
theorem c_215_108 {d : Nat} {L S : List V} {v : V} {h : HS} {Q : (List V ⊕ Pn) × HS → Prop} : XB d 215 108 3 L S Q (.inl [v], h) ↔ X d 215 111 L (v :: S) h Q := Iff.rfl
theorem c_215_119 {d : Nat} {L S : List V} {v : V} {h : HS} {Q : (List V ⊕ Pn) × HS → Prop} : XB d 215 119 3 L S Q (.inl [v], h) ↔ X d 215 122 L (v :: S) h Q := Iff.rfl
theorem c_215_127 {d : Nat} {L S : List V} {h : HS} {Q : (List V ⊕ Pn) × HS → Prop} : XB d 215 127 3 L S Q (.inl [], h) ↔ X d 215 130 L S h Q := Iff.rfl
theorem c_215_138 {d : Nat} {L S : List V} {v : V} {h : HS} {Q : (List V ⊕ Pn) × HS → Prop} : XB d 215 138 3 L S Q (.inl [v], h) ↔ X d 215 141 L (v :: S) h Q := Iff.rfl
theorem c_215_141 {d : Nat} {L S : List V} {h : HS} {Q : (List V ⊕ Pn) × HS → Prop} : XB d 215 141 3 L S Q (.inl [], h) ↔ X d 215 144 L S h Q := Iff.rfl
theorem e_215 {d : Nat} {x0 : Nat} {h : HS} {Q : (List V ⊕ Pn) × HS → Prop} : Ev d 215 [vR (11534502, x0)] h Q ↔ X d 215 0 [vR (11534502, x0), vU, vU, vU, vU, vU] [] h Q := Iff.rfl
-- X10_opens
theorem b_216_0 {d : Nat} {j0 : Nat} {x1 : Int32} {h : HS} {Q : (List V ⊕ Pn) × HS → Prop} : X d 216 0 [vR (11534502, j0), vI x1] [] h Q ↔ if (gI h 11534502 j0 2) < (nI 10) then X d 216 10 [vR (11534502, j0), vI x1] [vR (11534502, j0)] h Q else X d 216 14 [vR (11534502, j0), vI x1] [vR (11534502, j0)] h Q :=
  (X_pure i_216_0 rfl).trans ((X_pure i_216_1 rfl).trans ((X_getI i_216_2 f_216_76).trans ((X_icB i_216_5 kB_10).trans (X_ic_ge i_216_7 t_7_14))))
theorem b_216_10 {d : Nat} {j0 : Nat} {x1 : Int32} {js0 : Nat} {h : HS} {Q : (List V ⊕ Pn) × HS → Prop} : X d 216 10 [vR (11534502, j0), vI x1] [vR (11534502, js0)] h Q ↔ X d 216 15 [vR (11534502, j0), vI x1] [vI (nI 1), vR (11534502, js0)] h Q :=
  (X_icI i_216_10 kI_1).trans ((X_go i_216_11 t_11_15).trans (Iff.rfl))
theorem b_216_14 {d : Nat} {j0 : Nat} {x1 : Int32} {js0 : Nat} {h : HS} {Q : (List V ⊕ Pn) × HS → Prop} : X d 216 14 [vR (11534502, j0), vI x1] [vR (11534502, js0)] h Q ↔ X d 216 15 [vR (11534502, j0), vI x1] [vI (nI 0), vR (11534502, js0)] h Q :=
  (X_icI i_216_14 kI_0).trans (Iff.rfl)
theorem b_216_15 {d : Nat} {j0 : Nat} {x1 : Int32} {js0 : Nat} {xs1 : Int32} {h : HS} {Q : (List V ⊕ Pn) × HS → Prop} (hd : 1 ≤ d) : X d 216 15 [vR (11534502, j0), vI x1] [vI xs1, vR (11534502, js0)] h Q ↔ Ev (d - 1) 208 [vR (11534502, js0), vI xs1, vI (nI 2), vI x1] h (XB d 216 17 3 [vR (11534502, j0), vI x1] [] Q) :=
  (X_icI i_216_15 kI_2).trans ((X_pure i_216_16 rfl).trans (X_cv hd i_216_17 v_216_53 rfl rfl rfl ⟨rfl, rfl⟩))
theorem b_216_20 {d : Nat} {j0 : Nat} {x1 : Int32} {h : HS} {Q : (List V ⊕ Pn) × HS → Prop} : X d 216 20 [vR (11534502, j0), vI x1] [] h Q ↔ Q (.inl [], sI h 11534502 j0 2 ((gI h 11534502 j0 2) + (nI 1))) :=
  (X_pure i_216_20 rfl).trans ((X_pure i_216_21 rfl).trans ((X_getI i_216_22 f_216_76).trans ((X_icI i_216_25 kI_1).trans ((X_pure i_216_26 rfl).trans ((X_putI i_216_27 f_216_76 o_216_11534502_2).trans (X_rv i_216_30 r_216))))))
theorem c_216_17 {d : Nat} {L S : List V} {h : HS} {Q : (List V ⊕ Pn) × HS → Prop} : XB d 216 17 3 L S Q (.inl [], h) ↔ X d 216 20 L S h Q := Iff.rfl
theorem e_216 {d : Nat} {x0 : Nat} {x1 : Int32} {h : HS} {Q : (List V ⊕ Pn) × HS → Prop} : Ev d 216 [vR (11534502, x0), vI x1] h Q ↔ X d 216 0 [vR (11534502, x0), vI x1] [] h Q := Iff.rfl
-- X10_wants
theorem b_217_0 {d : Nat} {j0 : Nat} {x1 : Int32} {h : HS} {Q : (List V ⊕ Pn) × HS → Prop} (hd : 1 ≤ d) : X d 217 0 [vR (11534502, j0), vI x1] [] h Q ↔ Ev (d - 1) 218 [vR (11534502, j0), vI x1] h (XB d 217 3 3 [vR (11534502, j0), vI x1] [vR (11534502, j0)] Q) :=
  (X_pure i_217_0 rfl).trans ((X_pure i_217_1 rfl).trans ((X_pure i_217_2 rfl).trans (X_cv hd i_217_3 v_217_49 rfl rfl rfl ⟨rfl, rfl⟩)))
theorem b_217_6 {d : Nat} {j0 : Nat} {x1 : Int32} {js0 : Nat} {xs1 : Int32} {h : HS} {Q : (List V ⊕ Pn) × HS → Prop} (hd : 1 ≤ d) : X d 217 6 [vR (11534502, j0), vI x1] [vI xs1, vR (11534502, js0)] h Q ↔ Ev (d - 1) 208 [vR (11534502, js0), vI xs1, vI (nI 0), vI (gI h 11534502 j0 1)] h (XB d 217 11 3 [vR (11534502, j0), vI x1] [] Q) :=
  (X_icI i_217_6 kI_0).trans ((X_pure i_217_7 rfl).trans ((X_getI i_217_8 f_217_35).trans (X_cv hd i_217_11 v_217_53 rfl rfl rfl ⟨rfl, rfl⟩)))
theorem b_217_14 {d : Nat} {j0 : Nat} {x1 : Int32} {h : HS} {Q : (List V ⊕ Pn) × HS → Prop} : X d 217 14 [vR (11534502, j0), vI x1] [] h Q ↔ Q (.inl [], h) :=
  X_rv i_217_14 r_217
theorem c_217_3 {d : Nat} {L S : List V} {v : V} {h : HS} {Q : (List V ⊕ Pn) × HS → Prop} : XB d 217 3 3 L S Q (.inl [v], h) ↔ X d 217 6 L (v :: S) h Q := Iff.rfl
theorem c_217_11 {d : Nat} {L S : List V} {h : HS} {Q : (List V ⊕ Pn) × HS → Prop} : XB d 217 11 3 L S Q (.inl [], h) ↔ X d 217 14 L S h Q := Iff.rfl
theorem e_217 {d : Nat} {x0 : Nat} {x1 : Int32} {h : HS} {Q : (List V ⊕ Pn) × HS → Prop} : Ev d 217 [vR (11534502, x0), vI x1] h Q ↔ X d 217 0 [vR (11534502, x0), vI x1] [] h Q := Iff.rfl
-- X10_takes
theorem b_218_0 {d : Nat} {j0 : Nat} {x1 : Int32} {h : HS} {Q : (List V ⊕ Pn) × HS → Prop} (hd : 1 ≤ d) : X d 218 0 [vR (11534502, j0), vI x1] [] h Q ↔ Ev (d - 1) 204 [vR (11534502, j0)] h (XB d 218 1 3 [vR (11534502, j0), vI x1] [] Q) :=
  (X_pure i_218_0 rfl).trans (X_cv hd i_218_1 v_218_45 rfl rfl rfl ⟨rfl, rfl⟩)
theorem b_218_4 {d : Nat} {j0 : Nat} {x1 : Int32} {xs0 : Int32} {h : HS} {Q : (List V ⊕ Pn) × HS → Prop} : X d 218 4 [vR (11534502, j0), vI x1] [vI xs0] h Q ↔ if xs0 = x1 then X d 218 10 [vR (11534502, j0), vI x1] [] h Q else X d 218 8 [vR (11534502, j0), vI x1] [] h Q :=
  (X_pure i_218_4 rfl).trans (X_ic_eq i_218_5 t_5_10)
theorem b_218_8 {d : Nat} {j0 : Nat} {x1 : Int32} {h : HS} {Q : (List V ⊕ Pn) × HS → Prop} : X d 218 8 [vR (11534502, j0), vI x1] [] h Q ↔ ((nI 0) = 0 ∨ (nI 0) = 1) ∧ Q (.inl [vI (nI 0)], h) :=
  (X_icI i_218_8 kI_0).trans (X_rz i_218_9 r_218)
theorem b_218_10 {d : Nat} {j0 : Nat} {x1 : Int32} {h : HS} {Q : (List V ⊕ Pn) × HS → Prop} : X d 218 10 [vR (11534502, j0), vI x1] [] h Q ↔ ((nI 1) = 0 ∨ (nI 1) = 1) ∧ Q (.inl [vI (nI 1)], sI h 11534502 j0 1 ((gI h 11534502 j0 1) + (nI 1))) :=
  (X_pure i_218_10 rfl).trans ((X_pure i_218_11 rfl).trans ((X_getI i_218_12 f_218_35).trans ((X_icI i_218_15 kI_1).trans ((X_pure i_218_16 rfl).trans ((X_putI i_218_17 f_218_35 o_218_11534502_1).trans ((X_icI i_218_20 kI_1).trans (X_rz i_218_21 r_218)))))))
theorem c_218_1 {d : Nat} {L S : List V} {v : V} {h : HS} {Q : (List V ⊕ Pn) × HS → Prop} : XB d 218 1 3 L S Q (.inl [v], h) ↔ X d 218 4 L (v :: S) h Q := Iff.rfl
theorem e_218 {d : Nat} {x0 : Nat} {x1 : Int32} {h : HS} {Q : (List V ⊕ Pn) × HS → Prop} : Ev d 218 [vR (11534502, x0), vI x1] h Q ↔ X d 218 0 [vR (11534502, x0), vI x1] [] h Q := Iff.rfl
-- X10_sum
theorem b_219_0 {d : Nat} {j0 : Nat} {u1 : V} {u2 : V} {h : HS} {Q : (List V ⊕ Pn) × HS → Prop} (hd : 1 ≤ d) : X d 219 0 [vR (11534502, j0), u1, u2] [] h Q ↔ Ev (d - 1) 220 [vR (11534502, j0)] h (XB d 219 1 3 [vR (11534502, j0), u1, u2] [] Q) :=
  (X_pure i_219_0 rfl).trans (X_cv hd i_219_1 v_219_187 rfl rfl rfl ⟨rfl, rfl⟩)
theorem b_219_4 {d : Nat} {j0 : Nat} {u1 : V} {u2 : V} {ps0 : Pn} {h : HS} {Q : (List V ⊕ Pn) × HS → Prop} (nu1 : nl u1 = true) : X d 219 4 [vR (11534502, j0), u1, u2] [vR ps0] h Q ↔ X d 219 5 [vR (11534502, j0), vR ps0, u2] [] h Q :=
  (X_soR i_219_4 rfl rfl nu1 rfl).trans (Iff.rfl)
theorem b_219_5 {d : Nat} {j0 : Nat} {p1 : Pn} {u2 : V} {h : HS} {Q : (List V ⊕ Pn) × HS → Prop} (hd : 1 ≤ d) : X d 219 5 [vR (11534502, j0), vR p1, u2] [] h Q ↔ Ev (d - 1) 204 [vR (11534502, j0)] h (XB d 219 6 3 [vR (11534502, j0), vR p1, u2] [] Q) :=
  (X_pure i_219_5 rfl).trans (X_cv hd i_219_6 v_219_45 rfl rfl rfl ⟨rfl, rfl⟩)
theorem b_219_9 {d : Nat} {j0 : Nat} {p1 : Pn} {u2 : V} {xs0 : Int32} {h : HS} {Q : (List V ⊕ Pn) × HS → Prop} : X d 219 9 [vR (11534502, j0), vR p1, u2] [vI xs0] h Q ↔ if xs0 = (nI 43) then X d 219 23 [vR (11534502, j0), vR p1, u2] [] h Q else X d 219 14 [vR (11534502, j0), vR p1, u2] [] h Q :=
  (X_icB i_219_9 kB_43).trans (X_ic_eq i_219_11 t_11_23)
theorem b_219_14 {d : Nat} {j0 : Nat} {p1 : Pn} {u2 : V} {h : HS} {Q : (List V ⊕ Pn) × HS → Prop} (hd : 1 ≤ d) : X d 219 14 [vR (11534502, j0), vR p1, u2] [] h Q ↔ Ev (d - 1) 204 [vR (11534502, j0)] h (XB d 219 15 3 [vR (11534502, j0), vR p1, u2] [] Q) :=
  (X_pure i_219_14 rfl).trans (X_cv hd i_219_15 v_219_45 rfl rfl rfl ⟨rfl, rfl⟩)
theorem b_219_18 {d : Nat} {j0 : Nat} {p1 : Pn} {u2 : V} {xs0 : Int32} {h : HS} {Q : (List V ⊕ Pn) × HS → Prop} : X d 219 18 [vR (11534502, j0), vR p1, u2] [vI xs0] h Q ↔ if xs0 = (nI 45) then X d 219 23 [vR (11534502, j0), vR p1, u2] [] h Q else X d 219 63 [vR (11534502, j0), vR p1, u2] [] h Q :=
  (X_icB i_219_18 kB_45).trans (X_ic_ne i_219_20 t_20_63)
theorem b_219_23 {d : Nat} {j0 : Nat} {p1 : Pn} {u2 : V} {h : HS} {Q : (List V ⊕ Pn) × HS → Prop} (hS : Sh h) (hd : 1 ≤ d) (nu2 : nl u2 = true) (hj0 : j0 < cn h 11534502) : X d 219 23 [vR (11534502, j0), vR p1, u2] [] h Q ↔ inb (gI h 11534502 j0 1) 400 ∧ (nc (sI h 11534502 j0 1 ((gI h 11534502 j0 1) + (nI 1))) + 1 ≤ NCL ∧ ns (sI h 11534502 j0 1 ((gI h 11534502 j0 1) + (nI 1))) + 3 ≤ NSL) ∧ Ev (d - 1) 220 [vR (11534502, j0)] (al (sI h 11534502 j0 1 ((gI h 11534502 j0 1) + (nI 1))) 15728902 3) (XB d 219 53 3 [vR (11534502, j0), vR p1, vI (gI h 28317954 0 (ix (gI h 11534502 j0 1)))] [vI (gI h 28317954 0 (ix (gI h 11534502 j0 1))), vR p1, vR (15728902, (cn h 15728902)), vR (15728902, (cn h 15728902))] Q) :=
  (X_pure i_219_23 rfl).trans ((X_getS i_219_24 f_219_3 (sht hS hj0)).trans ((X_getS i_219_27 f_219_41 (sh_6 hS)).trans ((X_pure i_219_30 rfl).trans ((X_getI i_219_31 f_219_35).trans ((X_bald i_219_34 kl_28317954 (by decide)).trans (ac ((X_soI i_219_35 rfl rfl nu2 rfl).trans ((X_pure i_219_36 rfl).trans ((X_pure i_219_37 rfl).trans ((X_getI i_219_38 f_219_35).trans ((X_icI i_219_41 kI_1).trans ((X_pure i_219_42 rfl).trans ((X_putI i_219_43 f_219_35 o_219_11534502_1).trans ((X_newc i_219_46 n_219_190 (rc_I)).trans (ac ((X_pure i_219_49 rfl).trans ((X_pure i_219_50 rfl).trans ((X_pure i_219_51 rfl).trans ((X_pure i_219_52 rfl).trans (X_cv hd i_219_53 v_219_187 rfl rfl rfl ⟨rfl, rfl⟩))))))))))))))))))))
theorem b_219_56 {d : Nat} {j0 : Nat} {p1 : Pn} {x2 : Int32} {js0 : Nat} {js1 : Nat} {ps2 : Pn} {xs3 : Int32} {ps4 : Pn} {h : HS} {Q : (List V ⊕ Pn) × HS → Prop} (hd : 1 ≤ d) : X d 219 56 [vR (11534502, j0), vR p1, vI x2] [vR ps4, vI xs3, vR ps2, vR (15728902, js1), vR (15728902, js0)] h Q ↔ Ev (d - 1) 233 [vR (15728902, js1), vR ps2, vI xs3, vR ps4] h (XB d 219 56 3 [vR (11534502, j0), vR p1, vI x2] [vR (15728902, js0)] Q) :=
  X_ci hd i_219_56 v_219_192 rfl (Nat.le_of_ble_eq_true rfl) rfl rfl ⟨rfl, rfl⟩
theorem b_219_59 {d : Nat} {j0 : Nat} {p1 : Pn} {x2 : Int32} {js0 : Nat} {h : HS} {Q : (List V ⊕ Pn) × HS → Prop} : X d 219 59 [vR (11534502, j0), vR p1, vI x2] [vR (15728902, js0)] h Q ↔ X d 219 5 [vR (11534502, j0), vR (15728902, js0), vI x2] [] h Q :=
  (X_pure i_219_59 rfl).trans ((X_go i_219_60 t_60_5).trans (Iff.rfl))
theorem b_219_63 {d : Nat} {j0 : Nat} {p1 : Pn} {u2 : V} {h : HS} {Q : (List V ⊕ Pn) × HS → Prop} : X d 219 63 [vR (11534502, j0), vR p1, u2] [] h Q ↔ Q (.inl [vR p1], h) :=
  (X_pure i_219_63 rfl).trans (X_ra i_219_64 r_219)
theorem c_219_1 {d : Nat} {L S : List V} {v : V} {h : HS} {Q : (List V ⊕ Pn) × HS → Prop} : XB d 219 1 3 L S Q (.inl [v], h) ↔ X d 219 4 L (v :: S) h Q := Iff.rfl
theorem c_219_6 {d : Nat} {L S : List V} {v : V} {h : HS} {Q : (List V ⊕ Pn) × HS → Prop} : XB d 219 6 3 L S Q (.inl [v], h) ↔ X d 219 9 L (v :: S) h Q := Iff.rfl
theorem c_219_15 {d : Nat} {L S : List V} {v : V} {h : HS} {Q : (List V ⊕ Pn) × HS → Prop} : XB d 219 15 3 L S Q (.inl [v], h) ↔ X d 219 18 L (v :: S) h Q := Iff.rfl
theorem c_219_53 {d : Nat} {L S : List V} {v : V} {h : HS} {Q : (List V ⊕ Pn) × HS → Prop} : XB d 219 53 3 L S Q (.inl [v], h) ↔ X d 219 56 L (v :: S) h Q := Iff.rfl
theorem c_219_56 {d : Nat} {L S : List V} {h : HS} {Q : (List V ⊕ Pn) × HS → Prop} : XB d 219 56 3 L S Q (.inl [], h) ↔ X d 219 59 L S h Q := Iff.rfl
theorem e_219 {d : Nat} {x0 : Nat} {h : HS} {Q : (List V ⊕ Pn) × HS → Prop} : Ev d 219 [vR (11534502, x0)] h Q ↔ X d 219 0 [vR (11534502, x0), vU, vU] [] h Q := Iff.rfl
-- X10_term
theorem b_220_0 {d : Nat} {j0 : Nat} {u1 : V} {h : HS} {Q : (List V ⊕ Pn) × HS → Prop} (hd : 1 ≤ d) : X d 220 0 [vR (11534502, j0), u1] [] h Q ↔ Ev (d - 1) 221 [vR (11534502, j0)] h (XB d 220 1 3 [vR (11534502, j0), u1] [] Q) :=
  (X_pure i_220_0 rfl).trans (X_cv hd i_220_1 v_220_193 rfl rfl rfl ⟨rfl, rfl⟩)
theorem b_220_4 {d : Nat} {j0 : Nat} {u1 : V} {ps0 : Pn} {h : HS} {Q : (List V ⊕ Pn) × HS → Prop} (nu1 : nl u1 = true) : X d 220 4 [vR (11534502, j0), u1] [vR ps0] h Q ↔ X d 220 5 [vR (11534502, j0), vR ps0] [] h Q :=
  (X_soR i_220_4 rfl rfl nu1 rfl).trans (Iff.rfl)
theorem b_220_5 {d : Nat} {j0 : Nat} {p1 : Pn} {h : HS} {Q : (List V ⊕ Pn) × HS → Prop} (hd : 1 ≤ d) : X d 220 5 [vR (11534502, j0), vR p1] [] h Q ↔ Ev (d - 1) 218 [vR (11534502, j0), vI (nI 42)] h (XB d 220 8 3 [vR (11534502, j0), vR p1] [] Q) :=
  (X_pure i_220_5 rfl).trans ((X_icB i_220_6 kB_42).trans (X_cv hd i_220_8 v_220_49 rfl rfl rfl ⟨rfl, rfl⟩))
theorem b_220_11 {d : Nat} {j0 : Nat} {p1 : Pn} {xs0 : Int32} {h : HS} {Q : (List V ⊕ Pn) × HS → Prop} : X d 220 11 [vR (11534502, j0), vR p1] [vI xs0] h Q ↔ if xs0 = 0 then X d 220 32 [vR (11534502, j0), vR p1] [] h Q else X d 220 14 [vR (11534502, j0), vR p1] [] h Q :=
  X_if_eq i_220_11 t_11_32
theorem b_220_14 {d : Nat} {j0 : Nat} {p1 : Pn} {h : HS} {Q : (List V ⊕ Pn) × HS → Prop} (hd : 1 ≤ d) : X d 220 14 [vR (11534502, j0), vR p1] [] h Q ↔ (nc h + 1 ≤ NCL ∧ ns h + 3 ≤ NSL) ∧ Ev (d - 1) 221 [vR (11534502, j0)] (al h 15728902 3) (XB d 220 22 3 [vR (11534502, j0), vR p1] [vI (nI 42), vR p1, vR (15728902, (cn h 15728902)), vR (15728902, (cn h 15728902))] Q) :=
  (X_newc i_220_14 n_220_190 (rfl)).trans (ac ((X_pure i_220_17 rfl).trans ((X_pure i_220_18 rfl).trans ((X_icB i_220_19 kB_42).trans ((X_pure i_220_21 rfl).trans (X_cv hd i_220_22 v_220_193 rfl rfl rfl ⟨rfl, rfl⟩))))))
theorem b_220_25 {d : Nat} {j0 : Nat} {p1 : Pn} {js0 : Nat} {js1 : Nat} {ps2 : Pn} {xs3 : Int32} {ps4 : Pn} {h : HS} {Q : (List V ⊕ Pn) × HS → Prop} (hd : 1 ≤ d) : X d 220 25 [vR (11534502, j0), vR p1] [vR ps4, vI xs3, vR ps2, vR (15728902, js1), vR (15728902, js0)] h Q ↔ Ev (d - 1) 233 [vR (15728902, js1), vR ps2, vI xs3, vR ps4] h (XB d 220 25 3 [vR (11534502, j0), vR p1] [vR (15728902, js0)] Q) :=
  X_ci hd i_220_25 v_220_192 rfl (Nat.le_of_ble_eq_true rfl) rfl rfl ⟨rfl, rfl⟩
theorem b_220_28 {d : Nat} {j0 : Nat} {p1 : Pn} {js0 : Nat} {h : HS} {Q : (List V ⊕ Pn) × HS → Prop} : X d 220 28 [vR (11534502, j0), vR p1] [vR (15728902, js0)] h Q ↔ X d 220 5 [vR (11534502, j0), vR (15728902, js0)] [] h Q :=
  (X_pure i_220_28 rfl).trans ((X_go i_220_29 t_29_5).trans (Iff.rfl))
theorem b_220_32 {d : Nat} {j0 : Nat} {p1 : Pn} {h : HS} {Q : (List V ⊕ Pn) × HS → Prop} : X d 220 32 [vR (11534502, j0), vR p1] [] h Q ↔ Q (.inl [vR p1], h) :=
  (X_pure i_220_32 rfl).trans (X_ra i_220_33 r_220)
theorem c_220_1 {d : Nat} {L S : List V} {v : V} {h : HS} {Q : (List V ⊕ Pn) × HS → Prop} : XB d 220 1 3 L S Q (.inl [v], h) ↔ X d 220 4 L (v :: S) h Q := Iff.rfl
theorem c_220_8 {d : Nat} {L S : List V} {v : V} {h : HS} {Q : (List V ⊕ Pn) × HS → Prop} : XB d 220 8 3 L S Q (.inl [v], h) ↔ X d 220 11 L (v :: S) h Q := Iff.rfl
theorem c_220_22 {d : Nat} {L S : List V} {v : V} {h : HS} {Q : (List V ⊕ Pn) × HS → Prop} : XB d 220 22 3 L S Q (.inl [v], h) ↔ X d 220 25 L (v :: S) h Q := Iff.rfl
theorem c_220_25 {d : Nat} {L S : List V} {h : HS} {Q : (List V ⊕ Pn) × HS → Prop} : XB d 220 25 3 L S Q (.inl [], h) ↔ X d 220 28 L S h Q := Iff.rfl
theorem e_220 {d : Nat} {x0 : Nat} {h : HS} {Q : (List V ⊕ Pn) × HS → Prop} : Ev d 220 [vR (11534502, x0)] h Q ↔ X d 220 0 [vR (11534502, x0), vU] [] h Q := Iff.rfl
-- X10_value
theorem b_221_0 {d : Nat} {j0 : Nat} {u1 : V} {u2 : V} {u3 : V} {h : HS} {Q : (List V ⊕ Pn) × HS → Prop} (hd : 1 ≤ d) : X d 221 0 [vR (11534502, j0), u1, u2, u3] [] h Q ↔ Ev (d - 1) 204 [vR (11534502, j0)] h (XB d 221 1 3 [vR (11534502, j0), u1, u2, u3] [] Q) :=
  (X_pure i_221_0 rfl).trans (X_cv hd i_221_1 v_221_45 rfl rfl rfl ⟨rfl, rfl⟩)
theorem b_221_4 {d : Nat} {j0 : Nat} {u1 : V} {u2 : V} {u3 : V} {xs0 : Int32} {h : HS} {Q : (List V ⊕ Pn) × HS → Prop} (hd : 1 ≤ d) (nu1 : nl u1 = true) (nu2 : nl u2 = true) : X d 221 4 [vR (11534502, j0), u1, u2, u3] [vI xs0] h Q ↔ Ev (d - 1) 212 [vR (11534502, j0), vI xs0] h (XB d 221 12 3 [vR (11534502, j0), vI xs0, vI (gI h 11534502 j0 1), u3] [] Q) :=
  (X_soI i_221_4 rfl rfl nu1 rfl).trans ((X_pure i_221_5 rfl).trans ((X_getI i_221_6 f_221_35).trans ((X_soI i_221_9 rfl rfl nu2 rfl).trans ((X_pure i_221_10 rfl).trans ((X_pure i_221_11 rfl).trans (X_cv hd i_221_12 v_221_70 rfl rfl rfl ⟨rfl, rfl⟩))))))
theorem b_221_15 {d : Nat} {j0 : Nat} {x1 : Int32} {x2 : Int32} {u3 : V} {xs0 : Int32} {h : HS} {Q : (List V ⊕ Pn) × HS → Prop} : X d 221 15 [vR (11534502, j0), vI x1, vI x2, u3] [vI xs0] h Q ↔ if xs0 = 0 then X d 221 40 [vR (11534502, j0), vI x1, vI x2, u3] [] h Q else X d 221 18 [vR (11534502, j0), vI x1, vI x2, u3] [] h Q :=
  X_if_eq i_221_15 t_15_40
theorem b_221_18 {d : Nat} {j0 : Nat} {x1 : Int32} {x2 : Int32} {u3 : V} {h : HS} {Q : (List V ⊕ Pn) × HS → Prop} (hd : 1 ≤ d) : X d 221 18 [vR (11534502, j0), vI x1, vI x2, u3] [] h Q ↔ Ev (d - 1) 211 [vR (11534502, j0), vI (nI 99999)] h (XB d 221 21 3 [vR (11534502, j0), vI x1, vI x2, u3] [] Q) :=
  (X_pure i_221_18 rfl).trans ((X_ldc i_221_19 l_221_196 rfl).trans (X_cv hd i_221_21 v_221_120 rfl rfl rfl ⟨rfl, rfl⟩))
theorem b_221_24 {d : Nat} {j0 : Nat} {x1 : Int32} {x2 : Int32} {u3 : V} {xs0 : Int32} {h : HS} {Q : (List V ⊕ Pn) × HS → Prop} (hd : 1 ≤ d) (nu3 : nl u3 = true) : X d 221 24 [vR (11534502, j0), vI x1, vI x2, u3] [vI xs0] h Q ↔ Ev (d - 1) 222 [vR (11534502, j0), vI x2] h (XB d 221 27 3 [vR (11534502, j0), vI x1, vI x2, vI xs0] [] Q) :=
  (X_soI i_221_24 rfl rfl nu3 rfl).trans ((X_pure i_221_25 rfl).trans ((X_pure i_221_26 rfl).trans (X_cv hd i_221_27 v_221_179 rfl rfl rfl ⟨rfl, rfl⟩)))
theorem b_221_30 {d : Nat} {j0 : Nat} {x1 : Int32} {x2 : Int32} {x3 : Int32} {h : HS} {Q : (List V ⊕ Pn) × HS → Prop} (hd : 1 ≤ d) : X d 221 30 [vR (11534502, j0), vI x1, vI x2, vI x3] [] h Q ↔ (nc h + 1 ≤ NCL ∧ ns h + 1 ≤ NSL) ∧ Ev (d - 1) 229 [vR (13631718, (cn h 13631718)), vL x3.toInt64] (al h 13631718 1) (XB d 221 36 3 [vR (11534502, j0), vI x1, vI x2, vI x3] [vR (13631718, (cn h 13631718))] Q) :=
  (X_newc i_221_30 n_221_197 (rfl)).trans (ac ((X_pure i_221_33 rfl).trans ((X_pure i_221_34 rfl).trans ((X_pure i_221_35 rfl).trans (X_ci hd i_221_36 v_221_199 rfl (Nat.le_of_ble_eq_true rfl) rfl rfl ⟨rfl, rfl⟩)))))
theorem b_221_39 {d : Nat} {j0 : Nat} {x1 : Int32} {x2 : Int32} {x3 : Int32} {js0 : Nat} {h : HS} {Q : (List V ⊕ Pn) × HS → Prop} : X d 221 39 [vR (11534502, j0), vI x1, vI x2, vI x3] [vR (13631718, js0)] h Q ↔ Q (.inl [vR (13631718, js0)], h) :=
  X_ra i_221_39 r_221
theorem b_221_40 {d : Nat} {j0 : Nat} {x1 : Int32} {x2 : Int32} {u3 : V} {h : HS} {Q : (List V ⊕ Pn) × HS → Prop} : X d 221 40 [vR (11534502, j0), vI x1, vI x2, u3] [] h Q ↔ if x1 = (nI 40) then X d 221 46 [vR (11534502, j0), vI x1, vI x2, u3] [] h Q else X d 221 89 [vR (11534502, j0), vI x1, vI x2, u3] [] h Q :=
  (X_pure i_221_40 rfl).trans ((X_icB i_221_41 kB_40).trans (X_ic_ne i_221_43 t_43_89))
theorem b_221_46 {d : Nat} {j0 : Nat} {x1 : Int32} {x2 : Int32} {u3 : V} {h : HS} {Q : (List V ⊕ Pn) × HS → Prop} (hd : 1 ≤ d) : X d 221 46 [vR (11534502, j0), vI x1, vI x2, u3] [] h Q ↔ Ev (d - 1) 216 [vR (11534502, j0), vI x2] h (XB d 221 48 3 [vR (11534502, j0), vI x1, vI x2, u3] [] Q) :=
  (X_pure i_221_46 rfl).trans ((X_pure i_221_47 rfl).trans (X_cv hd i_221_48 v_221_165 rfl rfl rfl ⟨rfl, rfl⟩))
theorem b_221_51 {d : Nat} {j0 : Nat} {x1 : Int32} {x2 : Int32} {u3 : V} {h : HS} {Q : (List V ⊕ Pn) × HS → Prop} (hd : 1 ≤ d) : X d 221 51 [vR (11534502, j0), vI x1, vI x2, u3] [] h Q ↔ Ev (d - 1) 222 [vR (11534502, j0), vI x2] h (XB d 221 53 3 [vR (11534502, j0), vI x1, vI x2, u3] [] Q) :=
  (X_pure i_221_51 rfl).trans ((X_pure i_221_52 rfl).trans (X_cv hd i_221_53 v_221_179 rfl rfl rfl ⟨rfl, rfl⟩))
theorem b_221_56 {d : Nat} {j0 : Nat} {x1 : Int32} {x2 : Int32} {u3 : V} {h : HS} {Q : (List V ⊕ Pn) × HS → Prop} (hd : 1 ≤ d) : X d 221 56 [vR (11534502, j0), vI x1, vI x2, u3] [] h Q ↔ Ev (d - 1) 219 [vR (11534502, j0)] (sI h 11534502 j0 1 ((gI h 11534502 j0 1) + (nI 1))) (XB d 221 67 3 [vR (11534502, j0), vI x1, vI x2, u3] [] Q) :=
  (X_pure i_221_56 rfl).trans ((X_pure i_221_57 rfl).trans ((X_getI i_221_58 f_221_35).trans ((X_icI i_221_61 kI_1).trans ((X_pure i_221_62 rfl).trans ((X_putI i_221_63 f_221_35 o_221_11534502_1).trans ((X_pure i_221_66 rfl).trans (X_cv hd i_221_67 v_221_128 rfl rfl rfl ⟨rfl, rfl⟩)))))))
theorem b_221_70 {d : Nat} {j0 : Nat} {x1 : Int32} {x2 : Int32} {u3 : V} {ps0 : Pn} {h : HS} {Q : (List V ⊕ Pn) × HS → Prop} (hd : 1 ≤ d) (nu3 : nl u3 = true) : X d 221 70 [vR (11534502, j0), vI x1, vI x2, u3] [vR ps0] h Q ↔ Ev (d - 1) 217 [vR (11534502, j0), vI (nI 41)] h (XB d 221 74 3 [vR (11534502, j0), vI x1, vI x2, vR ps0] [] Q) :=
  (X_soR i_221_70 rfl rfl nu3 rfl).trans ((X_pure i_221_71 rfl).trans ((X_icB i_221_72 kB_41).trans (X_cv hd i_221_74 v_221_173 rfl rfl rfl ⟨rfl, rfl⟩)))
theorem b_221_77 {d : Nat} {j0 : Nat} {x1 : Int32} {x2 : Int32} {p3 : Pn} {h : HS} {Q : (List V ⊕ Pn) × HS → Prop} : X d 221 77 [vR (11534502, j0), vI x1, vI x2, vR p3] [] h Q ↔ Q (.inl [vR p3], sI h 11534502 j0 2 ((gI h 11534502 j0 2) - (nI 1))) :=
  (X_pure i_221_77 rfl).trans ((X_pure i_221_78 rfl).trans ((X_getI i_221_79 f_221_76).trans ((X_icI i_221_82 kI_1).trans ((X_pure i_221_83 rfl).trans ((X_putI i_221_84 f_221_76 o_221_11534502_2).trans ((X_pure i_221_87 rfl).trans (X_ra i_221_88 r_221)))))))
theorem b_221_89 {d : Nat} {j0 : Nat} {x1 : Int32} {x2 : Int32} {u3 : V} {h : HS} {Q : (List V ⊕ Pn) × HS → Prop} (nu3 : nl u3 = true) : X d 221 89 [vR (11534502, j0), vI x1, vI x2, u3] [] h Q ↔ X d 221 91 [vR (11534502, j0), vI x1, vI x2, vI (nI 0)] [] h Q :=
  (X_icI i_221_89 kI_0).trans ((X_soI i_221_90 rfl rfl nu3 rfl).trans (Iff.rfl))
theorem b_221_91 {d : Nat} {j0 : Nat} {x1 : Int32} {x2 : Int32} {x3 : Int32} {h : HS} {Q : (List V ⊕ Pn) × HS → Prop} (hS : Sh h) (hj0 : j0 < cn h 11534502) : X d 221 91 [vR (11534502, j0), vI x1, vI x2, vI x3] [] h Q ↔ if x3 < (nI 13) then X d 221 103 [vR (11534502, j0), vI x1, vI x2, vI x3] [] h Q else X d 221 163 [vR (11534502, j0), vI x1, vI x2, vI x3] [] h Q :=
  (X_pure i_221_91 rfl).trans ((X_pure i_221_92 rfl).trans ((X_getS i_221_93 f_221_3 (sht hS hj0)).trans ((X_getS i_221_96 f_221_202 (sh_7 hS)).trans ((X_len i_221_99 kl_29360341 (by decide)).trans (X_ic_ge i_221_100 t_100_163)))))
theorem b_221_103 {d : Nat} {j0 : Nat} {x1 : Int32} {x2 : Int32} {x3 : Int32} {h : HS} {Q : (List V ⊕ Pn) × HS → Prop} (hS : Sh h) (hd : 1 ≤ d) (hj0 : j0 < cn h 11534502) : X d 221 103 [vR (11534502, j0), vI x1, vI x2, vI x3] [] h Q ↔ inb x3 13 ∧ Ev (d - 1) 207 [vR (11534502, j0), vR (8, (ix x3))] h (XB d 221 113 3 [vR (11534502, j0), vI x1, vI x2, vI x3] [] Q) :=
  (X_pure i_221_103 rfl).trans ((X_pure i_221_104 rfl).trans ((X_getS i_221_105 f_221_3 (sht hS hj0)).trans ((X_getS i_221_108 f_221_202 (sh_7 hS)).trans ((X_pure i_221_111 rfl).trans ((X_aldS i_221_112 kl_29360341 (by decide) (fun z => shw hS z)).trans (ac (X_cv hd i_221_113 v_221_66 rfl rfl rfl ⟨rfl, rfl⟩)))))))
theorem b_221_116 {d : Nat} {j0 : Nat} {x1 : Int32} {x2 : Int32} {x3 : Int32} {xs0 : Int32} {h : HS} {Q : (List V ⊕ Pn) × HS → Prop} : X d 221 116 [vR (11534502, j0), vI x1, vI x2, vI x3] [vI xs0] h Q ↔ if xs0 = 0 then X d 221 119 [vR (11534502, j0), vI x1, vI x2, vI x3] [] h Q else X d 221 122 [vR (11534502, j0), vI x1, vI x2, vI x3] [] h Q :=
  X_if_ne i_221_116 t_116_122
theorem b_221_119 {d : Nat} {j0 : Nat} {x1 : Int32} {x2 : Int32} {x3 : Int32} {h : HS} {Q : (List V ⊕ Pn) × HS → Prop} : X d 221 119 [vR (11534502, j0), vI x1, vI x2, vI x3] [] h Q ↔ X d 221 157 [vR (11534502, j0), vI x1, vI x2, vI x3] [] h Q :=
  (X_go i_221_119 t_119_157).trans (Iff.rfl)
theorem b_221_122 {d : Nat} {j0 : Nat} {x1 : Int32} {x2 : Int32} {x3 : Int32} {h : HS} {Q : (List V ⊕ Pn) × HS → Prop} (hd : 1 ≤ d) : X d 221 122 [vR (11534502, j0), vI x1, vI x2, vI x3] [] h Q ↔ Ev (d - 1) 222 [vR (11534502, j0), vI x2] h (XB d 221 124 3 [vR (11534502, j0), vI x1, vI x2, vI x3] [] Q) :=
  (X_pure i_221_122 rfl).trans ((X_pure i_221_123 rfl).trans (X_cv hd i_221_124 v_221_179 rfl rfl rfl ⟨rfl, rfl⟩))
theorem b_221_127 {d : Nat} {j0 : Nat} {x1 : Int32} {x2 : Int32} {x3 : Int32} {h : HS} {Q : (List V ⊕ Pn) × HS → Prop} (hS : Sh h) (hd : 1 ≤ d) (hj0 : j0 < cn h 11534502) : X d 221 127 [vR (11534502, j0), vI x1, vI x2, vI x3] [] h Q ↔ inb x3 13 ∧ Ev (d - 1) 253 [vR (8, (ix x3))] h (XB d 221 141 3 [vR (11534502, j0), vI x1, vI x2, vI x3] [vI (gI h 11534502 j0 1), vR (11534502, j0)] Q) :=
  (X_pure i_221_127 rfl).trans ((X_pure i_221_128 rfl).trans ((X_getI i_221_129 f_221_35).trans ((X_pure i_221_132 rfl).trans ((X_getS i_221_133 f_221_3 (sht hS hj0)).trans ((X_getS i_221_136 f_221_202 (sh_7 hS)).trans ((X_pure i_221_139 rfl).trans ((X_aldS i_221_140 kl_29360341 (by decide) (fun z => shw hS z)).trans (ac (X_cv hd i_221_141 v_221_57 rfl rfl rfl ⟨rfl, rfl⟩)))))))))
theorem b_221_144 {d : Nat} {j0 : Nat} {x1 : Int32} {x2 : Int32} {x3 : Int32} {js0 : Nat} {xs1 : Int32} {xs2 : Int32} {h : HS} {Q : (List V ⊕ Pn) × HS → Prop} (hd : 1 ≤ d) : X d 221 144 [vR (11534502, j0), vI x1, vI x2, vI x3] [vI xs2, vI xs1, vR (11534502, js0)] h Q ↔ (nc (sI h 11534502 js0 1 (xs1 + xs2)) + 1 ≤ NCL ∧ ns (sI h 11534502 js0 1 (xs1 + xs2)) + 1 ≤ NSL) ∧ Ev (d - 1) 231 [vR (14680310, (cn h 14680310)), vI x3] (al (sI h 11534502 js0 1 (xs1 + xs2)) 14680310 1) (XB d 221 153 3 [vR (11534502, j0), vI x1, vI x2, vI x3] [vR (14680310, (cn h 14680310))] Q) :=
  (X_pure i_221_144 rfl).trans ((X_putI i_221_145 f_221_35 o_221_11534502_1).trans ((X_newc i_221_148 n_221_205 (rc_I)).trans (ac ((X_pure i_221_151 rfl).trans ((X_pure i_221_152 rfl).trans (X_ci hd i_221_153 v_221_207 rfl (Nat.le_of_ble_eq_true rfl) rfl rfl ⟨rfl, rfl⟩))))))
theorem b_221_156 {d : Nat} {j0 : Nat} {x1 : Int32} {x2 : Int32} {x3 : Int32} {js0 : Nat} {h : HS} {Q : (List V ⊕ Pn) × HS → Prop} : X d 221 156 [vR (11534502, j0), vI x1, vI x2, vI x3] [vR (14680310, js0)] h Q ↔ Q (.inl [vR (14680310, js0)], h) :=
  X_ra i_221_156 r_221
theorem b_221_157 {d : Nat} {j0 : Nat} {x1 : Int32} {x2 : Int32} {x3 : Int32} {h : HS} {Q : (List V ⊕ Pn) × HS → Prop} : X d 221 157 [vR (11534502, j0), vI x1, vI x2, vI x3] [] h Q ↔ X d 221 91 [vR (11534502, j0), vI x1, vI x2, vI (x3 + nI 1)] [] h Q :=
  (X_inc (x := x3) i_221_157 rfl kI_1 rfl).trans ((X_go i_221_160 t_160_91).trans (Iff.rfl))
theorem b_221_163 {d : Nat} {j0 : Nat} {x1 : Int32} {x2 : Int32} {x3 : Int32} {h : HS} {Q : (List V ⊕ Pn) × HS → Prop} (hd : 1 ≤ d) : X d 221 163 [vR (11534502, j0), vI x1, vI x2, vI x3] [] h Q ↔ Ev (d - 1) 208 [vR (11534502, j0), vI (nI 0), vI (nI 0), vI x2] h (XB d 221 167 3 [vR (11534502, j0), vI x1, vI x2, vI x3] [] Q) :=
  (X_pure i_221_163 rfl).trans ((X_icI i_221_164 kI_0).trans ((X_icI i_221_165 kI_0).trans ((X_pure i_221_166 rfl).trans (X_cv hd i_221_167 v_221_53 rfl rfl rfl ⟨rfl, rfl⟩))))
theorem b_221_170 {d : Nat} {j0 : Nat} {x1 : Int32} {x2 : Int32} {x3 : Int32} {h : HS} {Q : (List V ⊕ Pn) × HS → Prop} : X d 221 170 [vR (11534502, j0), vI x1, vI x2, vI x3] [] h Q ↔ Q (.inl [vR (0, 0)], h) :=
  (X_pure i_221_170 rfl).trans (X_ra i_221_171 r_221)
theorem c_221_1 {d : Nat} {L S : List V} {v : V} {h : HS} {Q : (List V ⊕ Pn) × HS → Prop} : XB d 221 1 3 L S Q (.inl [v], h) ↔ X d 221 4 L (v :: S) h Q := Iff.rfl
theorem c_221_12 {d : Nat} {L S : List V} {v : V} {h : HS} {Q : (List V ⊕ Pn) × HS → Prop} : XB d 221 12 3 L S Q (.inl [v], h) ↔ X d 221 15 L (v :: S) h Q := Iff.rfl
theorem c_221_21 {d : Nat} {L S : List V} {v : V} {h : HS} {Q : (List V ⊕ Pn) × HS → Prop} : XB d 221 21 3 L S Q (.inl [v], h) ↔ X d 221 24 L (v :: S) h Q := Iff.rfl
theorem c_221_27 {d : Nat} {L S : List V} {h : HS} {Q : (List V ⊕ Pn) × HS → Prop} : XB d 221 27 3 L S Q (.inl [], h) ↔ X d 221 30 L S h Q := Iff.rfl
theorem c_221_36 {d : Nat} {L S : List V} {h : HS} {Q : (List V ⊕ Pn) × HS → Prop} : XB d 221 36 3 L S Q (.inl [], h) ↔ X d 221 39 L S h Q := Iff.rfl
theorem c_221_48 {d : Nat} {L S : List V} {h : HS} {Q : (List V ⊕ Pn) × HS → Prop} : XB d 221 48 3 L S Q (.inl [], h) ↔ X d 221 51 L S h Q := Iff.rfl
theorem c_221_53 {d : Nat} {L S : List V} {h : HS} {Q : (List V ⊕ Pn) × HS → Prop} : XB d 221 53 3 L S Q (.inl [], h) ↔ X d 221 56 L S h Q := Iff.rfl
theorem c_221_67 {d : Nat} {L S : List V} {v : V} {h : HS} {Q : (List V ⊕ Pn) × HS → Prop} : XB d 221 67 3 L S Q (.inl [v], h) ↔ X d 221 70 L (v :: S) h Q := Iff.rfl
theorem c_221_74 {d : Nat} {L S : List V} {h : HS} {Q : (List V ⊕ Pn) × HS → Prop} : XB d 221 74 3 L S Q (.inl [], h) ↔ X d 221 77 L S h Q := Iff.rfl
theorem c_221_113 {d : Nat} {L S : List V} {v : V} {h : HS} {Q : (List V ⊕ Pn) × HS → Prop} : XB d 221 113 3 L S Q (.inl [v], h) ↔ X d 221 116 L (v :: S) h Q := Iff.rfl
theorem c_221_124 {d : Nat} {L S : List V} {h : HS} {Q : (List V ⊕ Pn) × HS → Prop} : XB d 221 124 3 L S Q (.inl [], h) ↔ X d 221 127 L S h Q := Iff.rfl
theorem c_221_141 {d : Nat} {L S : List V} {v : V} {h : HS} {Q : (List V ⊕ Pn) × HS → Prop} : XB d 221 141 3 L S Q (.inl [v], h) ↔ X d 221 144 L (v :: S) h Q := Iff.rfl
theorem c_221_153 {d : Nat} {L S : List V} {h : HS} {Q : (List V ⊕ Pn) × HS → Prop} : XB d 221 153 3 L S Q (.inl [], h) ↔ X d 221 156 L S h Q := Iff.rfl
theorem c_221_167 {d : Nat} {L S : List V} {h : HS} {Q : (List V ⊕ Pn) × HS → Prop} : XB d 221 167 3 L S Q (.inl [], h) ↔ X d 221 170 L S h Q := Iff.rfl
theorem e_221 {d : Nat} {x0 : Nat} {h : HS} {Q : (List V ⊕ Pn) × HS → Prop} : Ev d 221 [vR (11534502, x0)] h Q ↔ X d 221 0 [vR (11534502, x0), vU, vU, vU] [] h Q := Iff.rfl
-- X10_makes
theorem b_222_0 {d : Nat} {j0 : Nat} {x1 : Int32} {h : HS} {Q : (List V ⊕ Pn) × HS → Prop} : X d 222 0 [vR (11534502, j0), vI x1] [] h Q ↔ if (gI h 11534502 j0 3) < (nI 80) then X d 222 10 [vR (11534502, j0), vI x1] [vR (11534502, j0)] h Q else X d 222 14 [vR (11534502, j0), vI x1] [vR (11534502, j0)] h Q :=
  (X_pure i_222_0 rfl).trans ((X_pure i_222_1 rfl).trans ((X_getI i_222_2 f_222_73).trans ((X_icB i_222_5 kB_80).trans (X_ic_ge i_222_7 t_7_14))))
theorem b_222_10 {d : Nat} {j0 : Nat} {x1 : Int32} {js0 : Nat} {h : HS} {Q : (List V ⊕ Pn) × HS → Prop} : X d 222 10 [vR (11534502, j0), vI x1] [vR (11534502, js0)] h Q ↔ X d 222 15 [vR (11534502, j0), vI x1] [vI (nI 1), vR (11534502, js0)] h Q :=
  (X_icI i_222_10 kI_1).trans ((X_go i_222_11 t_11_15).trans (Iff.rfl))
theorem b_222_14 {d : Nat} {j0 : Nat} {x1 : Int32} {js0 : Nat} {h : HS} {Q : (List V ⊕ Pn) × HS → Prop} : X d 222 14 [vR (11534502, j0), vI x1] [vR (11534502, js0)] h Q ↔ X d 222 15 [vR (11534502, j0), vI x1] [vI (nI 0), vR (11534502, js0)] h Q :=
  (X_icI i_222_14 kI_0).trans (Iff.rfl)
theorem b_222_15 {d : Nat} {j0 : Nat} {x1 : Int32} {js0 : Nat} {xs1 : Int32} {h : HS} {Q : (List V ⊕ Pn) × HS → Prop} (hd : 1 ≤ d) : X d 222 15 [vR (11534502, j0), vI x1] [vI xs1, vR (11534502, js0)] h Q ↔ Ev (d - 1) 208 [vR (11534502, js0), vI xs1, vI (nI 3), vI x1] h (XB d 222 17 3 [vR (11534502, j0), vI x1] [] Q) :=
  (X_icI i_222_15 kI_3).trans ((X_pure i_222_16 rfl).trans (X_cv hd i_222_17 v_222_53 rfl rfl rfl ⟨rfl, rfl⟩))
theorem b_222_20 {d : Nat} {j0 : Nat} {x1 : Int32} {h : HS} {Q : (List V ⊕ Pn) × HS → Prop} : X d 222 20 [vR (11534502, j0), vI x1] [] h Q ↔ Q (.inl [], sI h 11534502 j0 3 ((gI h 11534502 j0 3) + (nI 1))) :=
  (X_pure i_222_20 rfl).trans ((X_pure i_222_21 rfl).trans ((X_getI i_222_22 f_222_73).trans ((X_icI i_222_25 kI_1).trans ((X_pure i_222_26 rfl).trans ((X_putI i_222_27 f_222_73 o_222_11534502_3).trans (X_rv i_222_30 r_222))))))
theorem c_222_17 {d : Nat} {L S : List V} {h : HS} {Q : (List V ⊕ Pn) × HS → Prop} : XB d 222 17 3 L S Q (.inl [], h) ↔ X d 222 20 L S h Q := Iff.rfl
theorem e_222 {d : Nat} {x0 : Nat} {x1 : Int32} {h : HS} {Q : (List V ⊕ Pn) × HS → Prop} : Ev d 222 [vR (11534502, x0), vI x1] h Q ↔ X d 222 0 [vR (11534502, x0), vI x1] [] h Q := Iff.rfl
-- X10_sign
theorem b_223_0 {d : Nat} {j0 : Nat} {u1 : V} {u2 : V} {h : HS} {Q : (List V ⊕ Pn) × HS → Prop} (hd : 1 ≤ d) : X d 223 0 [vR (11534502, j0), u1, u2] [] h Q ↔ Ev (d - 1) 204 [vR (11534502, j0)] h (XB d 223 1 3 [vR (11534502, j0), u1, u2] [] Q) :=
  (X_pure i_223_0 rfl).trans (X_cv hd i_223_1 v_223_45 rfl rfl rfl ⟨rfl, rfl⟩)
theorem b_223_4 {d : Nat} {j0 : Nat} {u1 : V} {u2 : V} {xs0 : Int32} {h : HS} {Q : (List V ⊕ Pn) × HS → Prop} (nu1 : nl u1 = true) : X d 223 4 [vR (11534502, j0), u1, u2] [vI xs0] h Q ↔ if xs0 = (nI 60) then X d 223 24 [vR (11534502, j0), vI xs0, u2] [vR (11534502, j0)] h Q else X d 223 12 [vR (11534502, j0), vI xs0, u2] [vR (11534502, j0)] h Q :=
  (X_soI i_223_4 rfl rfl nu1 rfl).trans ((X_pure i_223_5 rfl).trans ((X_pure i_223_6 rfl).trans ((X_icB i_223_7 kB_60).trans (X_ic_eq i_223_9 t_9_24))))
theorem b_223_12 {d : Nat} {j0 : Nat} {x1 : Int32} {u2 : V} {js0 : Nat} {h : HS} {Q : (List V ⊕ Pn) × HS → Prop} : X d 223 12 [vR (11534502, j0), vI x1, u2] [vR (11534502, js0)] h Q ↔ if x1 = (nI 61) then X d 223 24 [vR (11534502, j0), vI x1, u2] [vR (11534502, js0)] h Q else X d 223 18 [vR (11534502, j0), vI x1, u2] [vR (11534502, js0)] h Q :=
  (X_pure i_223_12 rfl).trans ((X_icB i_223_13 kB_61).trans (X_ic_eq i_223_15 t_15_24))
theorem b_223_18 {d : Nat} {j0 : Nat} {x1 : Int32} {u2 : V} {js0 : Nat} {h : HS} {Q : (List V ⊕ Pn) × HS → Prop} : X d 223 18 [vR (11534502, j0), vI x1, u2] [vR (11534502, js0)] h Q ↔ if x1 = (nI 62) then X d 223 24 [vR (11534502, j0), vI x1, u2] [vR (11534502, js0)] h Q else X d 223 28 [vR (11534502, j0), vI x1, u2] [vR (11534502, js0)] h Q :=
  (X_pure i_223_18 rfl).trans ((X_icB i_223_19 kB_62).trans (X_ic_ne i_223_21 t_21_28))
theorem b_223_24 {d : Nat} {j0 : Nat} {x1 : Int32} {u2 : V} {js0 : Nat} {h : HS} {Q : (List V ⊕ Pn) × HS → Prop} : X d 223 24 [vR (11534502, j0), vI x1, u2] [vR (11534502, js0)] h Q ↔ X d 223 29 [vR (11534502, j0), vI x1, u2] [vI (nI 1), vR (11534502, js0)] h Q :=
  (X_icI i_223_24 kI_1).trans ((X_go i_223_25 t_25_29).trans (Iff.rfl))
theorem b_223_28 {d : Nat} {j0 : Nat} {x1 : Int32} {u2 : V} {js0 : Nat} {h : HS} {Q : (List V ⊕ Pn) × HS → Prop} : X d 223 28 [vR (11534502, j0), vI x1, u2] [vR (11534502, js0)] h Q ↔ X d 223 29 [vR (11534502, j0), vI x1, u2] [vI (nI 0), vR (11534502, js0)] h Q :=
  (X_icI i_223_28 kI_0).trans (Iff.rfl)
theorem b_223_29 {d : Nat} {j0 : Nat} {x1 : Int32} {u2 : V} {js0 : Nat} {xs1 : Int32} {h : HS} {Q : (List V ⊕ Pn) × HS → Prop} (hd : 1 ≤ d) : X d 223 29 [vR (11534502, j0), vI x1, u2] [vI xs1, vR (11534502, js0)] h Q ↔ Ev (d - 1) 208 [vR (11534502, js0), vI xs1, vI (nI 0), vI (gI h 11534502 j0 1)] h (XB d 223 34 3 [vR (11534502, j0), vI x1, u2] [] Q) :=
  (X_icI i_223_29 kI_0).trans ((X_pure i_223_30 rfl).trans ((X_getI i_223_31 f_223_35).trans (X_cv hd i_223_34 v_223_53 rfl rfl rfl ⟨rfl, rfl⟩)))
theorem b_223_37 {d : Nat} {j0 : Nat} {x1 : Int32} {u2 : V} {h : HS} {Q : (List V ⊕ Pn) × HS → Prop} : X d 223 37 [vR (11534502, j0), vI x1, u2] [] h Q ↔ if x1 = (nI 61) then X d 223 53 [vR (11534502, j0), vI x1, u2] [] (sI h 11534502 j0 1 ((gI h 11534502 j0 1) + (nI 1))) Q else X d 223 55 [vR (11534502, j0), vI x1, u2] [] (sI h 11534502 j0 1 ((gI h 11534502 j0 1) + (nI 1))) Q :=
  (X_pure i_223_37 rfl).trans ((X_pure i_223_38 rfl).trans ((X_getI i_223_39 f_223_35).trans ((X_icI i_223_42 kI_1).trans ((X_pure i_223_43 rfl).trans ((X_putI i_223_44 f_223_35 o_223_11534502_1).trans ((X_pure i_223_47 rfl).trans ((X_icB i_223_48 kB_61).trans (X_ic_ne i_223_50 t_50_55))))))))
theorem b_223_53 {d : Nat} {j0 : Nat} {x1 : Int32} {u2 : V} {h : HS} {Q : (List V ⊕ Pn) × HS → Prop} : X d 223 53 [vR (11534502, j0), vI x1, u2] [] h Q ↔ Q (.inl [vI (nI 2)], h) :=
  (X_icI i_223_53 kI_2).trans (X_ri i_223_54 r_223)
theorem b_223_55 {d : Nat} {j0 : Nat} {x1 : Int32} {u2 : V} {h : HS} {Q : (List V ⊕ Pn) × HS → Prop} (hS : Sh h) (hj0 : j0 < cn h 11534502) : X d 223 55 [vR (11534502, j0), vI x1, u2] [] h Q ↔ if (gI h 11534502 j0 1) < (gI h 1048582 0 12) then X d 223 69 [vR (11534502, j0), vI x1, u2] [] h Q else X d 223 90 [vR (11534502, j0), vI x1, u2] [] h Q :=
  (X_pure i_223_55 rfl).trans ((X_getI i_223_56 f_223_35).trans ((X_pure i_223_59 rfl).trans ((X_getS i_223_60 f_223_3 (sht hS hj0)).trans ((X_getI i_223_63 f_223_38).trans (X_ic_ge i_223_66 t_66_90)))))
theorem b_223_69 {d : Nat} {j0 : Nat} {x1 : Int32} {u2 : V} {h : HS} {Q : (List V ⊕ Pn) × HS → Prop} (hS : Sh h) (hj0 : j0 < cn h 11534502) : X d 223 69 [vR (11534502, j0), vI x1, u2] [] h Q ↔ inb (gI h 11534502 j0 1) 400 ∧ (if (gI h 28317954 0 (ix (gI h 11534502 j0 1))) = (nI 61) then X d 223 86 [vR (11534502, j0), vI x1, u2] [] h Q else X d 223 90 [vR (11534502, j0), vI x1, u2] [] h Q) :=
  (X_pure i_223_69 rfl).trans ((X_getS i_223_70 f_223_3 (sht hS hj0)).trans ((X_getS i_223_73 f_223_41 (sh_6 hS)).trans ((X_pure i_223_76 rfl).trans ((X_getI i_223_77 f_223_35).trans ((X_bald i_223_80 kl_28317954 (by decide)).trans (ac ((X_icB i_223_81 kB_61).trans (X_ic_ne i_223_83 t_83_90))))))))
theorem b_223_86 {d : Nat} {j0 : Nat} {x1 : Int32} {u2 : V} {h : HS} {Q : (List V ⊕ Pn) × HS → Prop} : X d 223 86 [vR (11534502, j0), vI x1, u2] [] h Q ↔ X d 223 91 [vR (11534502, j0), vI x1, u2] [vI (nI 1)] h Q :=
  (X_icI i_223_86 kI_1).trans ((X_go i_223_87 t_87_91).trans (Iff.rfl))
theorem b_223_90 {d : Nat} {j0 : Nat} {x1 : Int32} {u2 : V} {h : HS} {Q : (List V ⊕ Pn) × HS → Prop} : X d 223 90 [vR (11534502, j0), vI x1, u2] [] h Q ↔ X d 223 91 [vR (11534502, j0), vI x1, u2] [vI (nI 0)] h Q :=
  (X_icI i_223_90 kI_0).trans (Iff.rfl)
theorem b_223_91 {d : Nat} {j0 : Nat} {x1 : Int32} {u2 : V} {xs0 : Int32} {h : HS} {Q : (List V ⊕ Pn) × HS → Prop} (nu2 : nl u2 = true) : X d 223 91 [vR (11534502, j0), vI x1, u2] [vI xs0] h Q ↔ if xs0 = 0 then X d 223 106 [vR (11534502, j0), vI x1, vI xs0] [] h Q else X d 223 96 [vR (11534502, j0), vI x1, vI xs0] [] h Q :=
  (X_soI i_223_91 rfl rfl nu2 rfl).trans ((X_pure i_223_92 rfl).trans (X_if_eq i_223_93 t_93_106))
theorem b_223_96 {d : Nat} {j0 : Nat} {x1 : Int32} {x2 : Int32} {h : HS} {Q : (List V ⊕ Pn) × HS → Prop} : X d 223 96 [vR (11534502, j0), vI x1, vI x2] [] h Q ↔ X d 223 106 [vR (11534502, j0), vI x1, vI x2] [] (sI h 11534502 j0 1 ((gI h 11534502 j0 1) + (nI 1))) Q :=
  (X_pure i_223_96 rfl).trans ((X_pure i_223_97 rfl).trans ((X_getI i_223_98 f_223_35).trans ((X_icI i_223_101 kI_1).trans ((X_pure i_223_102 rfl).trans ((X_putI i_223_103 f_223_35 o_223_11534502_1).trans (Iff.rfl))))))
theorem b_223_106 {d : Nat} {j0 : Nat} {x1 : Int32} {x2 : Int32} {h : HS} {Q : (List V ⊕ Pn) × HS → Prop} : X d 223 106 [vR (11534502, j0), vI x1, vI x2] [] h Q ↔ if x1 = (nI 60) then X d 223 112 [vR (11534502, j0), vI x1, vI x2] [] h Q else X d 223 124 [vR (11534502, j0), vI x1, vI x2] [] h Q :=
  (X_pure i_223_106 rfl).trans ((X_icB i_223_107 kB_60).trans (X_ic_ne i_223_109 t_109_124))
theorem b_223_112 {d : Nat} {j0 : Nat} {x1 : Int32} {x2 : Int32} {h : HS} {Q : (List V ⊕ Pn) × HS → Prop} : X d 223 112 [vR (11534502, j0), vI x1, vI x2] [] h Q ↔ if x2 = 0 then X d 223 120 [vR (11534502, j0), vI x1, vI x2] [] h Q else X d 223 116 [vR (11534502, j0), vI x1, vI x2] [] h Q :=
  (X_pure i_223_112 rfl).trans (X_if_eq i_223_113 t_113_120)
theorem b_223_116 {d : Nat} {j0 : Nat} {x1 : Int32} {x2 : Int32} {h : HS} {Q : (List V ⊕ Pn) × HS → Prop} : X d 223 116 [vR (11534502, j0), vI x1, vI x2] [] h Q ↔ X d 223 133 [vR (11534502, j0), vI x1, vI x2] [vI (nI 1)] h Q :=
  (X_icI i_223_116 kI_1).trans ((X_go i_223_117 t_117_133).trans (Iff.rfl))
theorem b_223_120 {d : Nat} {j0 : Nat} {x1 : Int32} {x2 : Int32} {h : HS} {Q : (List V ⊕ Pn) × HS → Prop} : X d 223 120 [vR (11534502, j0), vI x1, vI x2] [] h Q ↔ X d 223 133 [vR (11534502, j0), vI x1, vI x2] [vI (nI 0)] h Q :=
  (X_icI i_223_120 kI_0).trans ((X_go i_223_121 t_121_133).trans (Iff.rfl))
theorem b_223_124 {d : Nat} {j0 : Nat} {x1 : Int32} {x2 : Int32} {h : HS} {Q : (List V ⊕ Pn) × HS → Prop} : X d 223 124 [vR (11534502, j0), vI x1, vI x2] [] h Q ↔ if x2 = 0 then X d 223 132 [vR (11534502, j0), vI x1, vI x2] [] h Q else X d 223 128 [vR (11534502, j0), vI x1, vI x2] [] h Q :=
  (X_pure i_223_124 rfl).trans (X_if_eq i_223_125 t_125_132)
theorem b_223_128 {d : Nat} {j0 : Nat} {x1 : Int32} {x2 : Int32} {h : HS} {Q : (List V ⊕ Pn) × HS → Prop} : X d 223 128 [vR (11534502, j0), vI x1, vI x2] [] h Q ↔ X d 223 133 [vR (11534502, j0), vI x1, vI x2] [vI (nI 3)] h Q :=
  (X_icI i_223_128 kI_3).trans ((X_go i_223_129 t_129_133).trans (Iff.rfl))
theorem b_223_132 {d : Nat} {j0 : Nat} {x1 : Int32} {x2 : Int32} {h : HS} {Q : (List V ⊕ Pn) × HS → Prop} : X d 223 132 [vR (11534502, j0), vI x1, vI x2] [] h Q ↔ X d 223 133 [vR (11534502, j0), vI x1, vI x2] [vI (nI 4)] h Q :=
  (X_icI i_223_132 kI_4).trans (Iff.rfl)
theorem b_223_133 {d : Nat} {j0 : Nat} {x1 : Int32} {x2 : Int32} {xs0 : Int32} {h : HS} {Q : (List V ⊕ Pn) × HS → Prop} : X d 223 133 [vR (11534502, j0), vI x1, vI x2] [vI xs0] h Q ↔ Q (.inl [vI xs0], h) :=
  X_ri i_223_133 r_223
theorem c_223_1 {d : Nat} {L S : List V} {v : V} {h : HS} {Q : (List V ⊕ Pn) × HS → Prop} : XB d 223 1 3 L S Q (.inl [v], h) ↔ X d 223 4 L (v :: S) h Q := Iff.rfl
theorem c_223_34 {d : Nat} {L S : List V} {h : HS} {Q : (List V ⊕ Pn) × HS → Prop} : XB d 223 34 3 L S Q (.inl [], h) ↔ X d 223 37 L S h Q := Iff.rfl
theorem e_223 {d : Nat} {x0 : Nat} {h : HS} {Q : (List V ⊕ Pn) × HS → Prop} : Ev d 223 [vR (11534502, x0)] h Q ↔ X d 223 0 [vR (11534502, x0), vU, vU] [] h Q := Iff.rfl
-- X10_onceTold
theorem b_224_0 {d : Nat} {j0 : Nat} {x1 : Int32} {x2 : Int32} {h : HS} {Q : (List V ⊕ Pn) × HS → Prop} : X d 224 0 [vR (11534502, j0), vI x1, vI x2] [] h Q ↔ if (((gI h 11534502 j0 4) >>> (x1 &&& 31)) &&& (nI 1)) = 0 then X d 224 12 [vR (11534502, j0), vI x1, vI x2] [vR (11534502, j0)] h Q else X d 224 16 [vR (11534502, j0), vI x1, vI x2] [vR (11534502, j0)] h Q :=
  (X_pure i_224_0 rfl).trans ((X_pure i_224_1 rfl).trans ((X_getI i_224_2 f_224_110).trans ((X_pure i_224_5 rfl).trans ((X_pure i_224_6 rfl).trans ((X_icI i_224_7 kI_1).trans ((X_pure i_224_8 rfl).trans (X_if_ne i_224_9 t_9_16)))))))
theorem b_224_12 {d : Nat} {j0 : Nat} {x1 : Int32} {x2 : Int32} {js0 : Nat} {h : HS} {Q : (List V ⊕ Pn) × HS → Prop} : X d 224 12 [vR (11534502, j0), vI x1, vI x2] [vR (11534502, js0)] h Q ↔ X d 224 17 [vR (11534502, j0), vI x1, vI x2] [vI (nI 1), vR (11534502, js0)] h Q :=
  (X_icI i_224_12 kI_1).trans ((X_go i_224_13 t_13_17).trans (Iff.rfl))
theorem b_224_16 {d : Nat} {j0 : Nat} {x1 : Int32} {x2 : Int32} {js0 : Nat} {h : HS} {Q : (List V ⊕ Pn) × HS → Prop} : X d 224 16 [vR (11534502, j0), vI x1, vI x2] [vR (11534502, js0)] h Q ↔ X d 224 17 [vR (11534502, j0), vI x1, vI x2] [vI (nI 0), vR (11534502, js0)] h Q :=
  (X_icI i_224_16 kI_0).trans (Iff.rfl)
theorem b_224_17 {d : Nat} {j0 : Nat} {x1 : Int32} {x2 : Int32} {js0 : Nat} {xs1 : Int32} {h : HS} {Q : (List V ⊕ Pn) × HS → Prop} (hd : 1 ≤ d) : X d 224 17 [vR (11534502, j0), vI x1, vI x2] [vI xs1, vR (11534502, js0)] h Q ↔ Ev (d - 1) 208 [vR (11534502, js0), vI xs1, vI (nI 5), vI x2] h (XB d 224 19 3 [vR (11534502, j0), vI x1, vI x2] [] Q) :=
  (X_icI i_224_17 kI_5).trans ((X_pure i_224_18 rfl).trans (X_cv hd i_224_19 v_224_53 rfl rfl rfl ⟨rfl, rfl⟩))
theorem b_224_22 {d : Nat} {j0 : Nat} {x1 : Int32} {x2 : Int32} {h : HS} {Q : (List V ⊕ Pn) × HS → Prop} : X d 224 22 [vR (11534502, j0), vI x1, vI x2] [] h Q ↔ if x1 < (nI 4) then X d 224 44 [vR (11534502, j0), vI x1, vI x2] [vI (gI h 11534502 j0 1), vR (11534502, j0)] (sI h 11534502 j0 4 ((gI h 11534502 j0 4) ||| ((nI 1) <<< (x1 &&& 31)))) Q else X d 224 59 [vR (11534502, j0), vI x1, vI x2] [vI (gI h 11534502 j0 1), vR (11534502, j0)] (sI h 11534502 j0 4 ((gI h 11534502 j0 4) ||| ((nI 1) <<< (x1 &&& 31)))) Q :=
  (X_pure i_224_22 rfl).trans ((X_pure i_224_23 rfl).trans ((X_getI i_224_24 f_224_110).trans ((X_icI i_224_27 kI_1).trans ((X_pure i_224_28 rfl).trans ((X_pure i_224_29 rfl).trans ((X_pure i_224_30 rfl).trans ((X_putI i_224_31 f_224_110 o_224_11534502_4).trans ((X_pure i_224_34 rfl).trans ((X_pure i_224_35 rfl).trans ((X_geI i_224_36 f_224_35 (rI_k rfl)).trans ((X_pure i_224_39 rfl).trans ((X_icI i_224_40 kI_4).trans (X_ic_ge i_224_41 t_41_59)))))))))))))
theorem b_224_44 {d : Nat} {j0 : Nat} {x1 : Int32} {x2 : Int32} {js0 : Nat} {xs1 : Int32} {h : HS} {Q : (List V ⊕ Pn) × HS → Prop} (hS : Sh h) (hd : 1 ≤ d) (hj0 : j0 < cn h 11534502) : X d 224 44 [vR (11534502, j0), vI x1, vI x2] [vI xs1, vR (11534502, js0)] h Q ↔ inb x1 4 ∧ Ev (d - 1) 253 [vR (8, (13 + ix x1))] h (XB d 224 53 3 [vR (11534502, j0), vI x1, vI x2] [vI xs1, vR (11534502, js0)] Q) :=
  (X_pure i_224_44 rfl).trans ((X_getS i_224_45 f_224_3 (sht hS hj0)).trans ((X_getS i_224_48 f_224_83 (sh_8 hS)).trans ((X_pure i_224_51 rfl).trans ((X_aldS i_224_52 kl_30408773 (by decide) (fun z => shp hS z)).trans (ac (X_cv hd i_224_53 v_224_57 rfl rfl rfl ⟨rfl, rfl⟩))))))
theorem b_224_56 {d : Nat} {j0 : Nat} {x1 : Int32} {x2 : Int32} {js0 : Nat} {xs1 : Int32} {xs2 : Int32} {h : HS} {Q : (List V ⊕ Pn) × HS → Prop} : X d 224 56 [vR (11534502, j0), vI x1, vI x2] [vI xs2, vI xs1, vR (11534502, js0)] h Q ↔ X d 224 60 [vR (11534502, j0), vI x1, vI x2] [vI xs2, vI xs1, vR (11534502, js0)] h Q :=
  (X_go i_224_56 t_56_60).trans (Iff.rfl)
theorem b_224_59 {d : Nat} {j0 : Nat} {x1 : Int32} {x2 : Int32} {js0 : Nat} {xs1 : Int32} {h : HS} {Q : (List V ⊕ Pn) × HS → Prop} : X d 224 59 [vR (11534502, j0), vI x1, vI x2] [vI xs1, vR (11534502, js0)] h Q ↔ X d 224 60 [vR (11534502, j0), vI x1, vI x2] [vI (nI 4), vI xs1, vR (11534502, js0)] h Q :=
  (X_icI i_224_59 kI_4).trans (Iff.rfl)
theorem b_224_60 {d : Nat} {j0 : Nat} {x1 : Int32} {x2 : Int32} {js0 : Nat} {xs1 : Int32} {xs2 : Int32} {h : HS} {Q : (List V ⊕ Pn) × HS → Prop} : X d 224 60 [vR (11534502, j0), vI x1, vI x2] [vI xs2, vI xs1, vR (11534502, js0)] h Q ↔ if x1 < (nI 4) then X d 224 69 [vR (11534502, j0), vI x1, vI x2] [] (sI h 11534502 js0 1 (xs1 + xs2)) Q else X d 224 90 [vR (11534502, j0), vI x1, vI x2] [] (sI h 11534502 js0 1 (xs1 + xs2)) Q :=
  (X_pure i_224_60 rfl).trans ((X_putI i_224_61 f_224_35 o_224_11534502_1).trans ((X_pure i_224_64 rfl).trans ((X_icI i_224_65 kI_4).trans (X_ic_ge i_224_66 t_66_90))))
theorem b_224_69 {d : Nat} {j0 : Nat} {x1 : Int32} {x2 : Int32} {h : HS} {Q : (List V ⊕ Pn) × HS → Prop} (hS : Sh h) (hd : 1 ≤ d) (hj0 : (gR h 11534502 j0 0).2 < cn h 3145766) : X d 224 69 [vR (11534502, j0), vI x1, vI x2] [] h Q ↔ (gR h 11534502 j0 0).1 = 3145766 ∧ inb x1 4 ∧ Ev (d - 1) 211 [vR (11534502, j0), vI (mostC.getD (ix x1) 0)] h (XB d 224 83 3 [vR (11534502, j0), vI x1, vI x2] [vI x1, vR (62914625, (gR h 11534502 j0 0).2)] Q) :=
  (X_pure i_224_69 rfl).trans ((X_getR i_224_70 f_224_18).trans ((X_gpS i_224_73 f_224_113 (sha_3 hS hj0)).trans (ac ((X_pure i_224_76 rfl).trans ((X_pure i_224_77 rfl).trans ((X_gst i_224_78 g_224_117).trans ((X_pure i_224_81 rfl).trans ((X_iald11 i_224_82).trans (ac (X_cv hd i_224_83 v_224_120 rfl rfl rfl ⟨rfl, rfl⟩))))))))))
theorem b_224_86 {d : Nat} {j0 : Nat} {x1 : Int32} {x2 : Int32} {js0 : Nat} {xs1 : Int32} {xs2 : Int32} {h : HS} {Q : (List V ⊕ Pn) × HS → Prop} : X d 224 86 [vR (11534502, j0), vI x1, vI x2] [vI xs2, vI xs1, vR (62914625, js0)] h Q ↔ inb xs1 4 ∧ X d 224 117 [vR (11534502, j0), vI x1, vI x2] [] (sI h 62914625 js0 (ix xs1) xs2) Q :=
  (X_iast i_224_86 kl_62914625 (by decide)).trans (ac ((X_go i_224_87 t_87_117).trans (Iff.rfl)))
theorem b_224_90 {d : Nat} {j0 : Nat} {x1 : Int32} {x2 : Int32} {h : HS} {Q : (List V ⊕ Pn) × HS → Prop} : X d 224 90 [vR (11534502, j0), vI x1, vI x2] [] h Q ↔ if x1 = (nI 4) then X d 224 95 [vR (11534502, j0), vI x1, vI x2] [] h Q else X d 224 106 [vR (11534502, j0), vI x1, vI x2] [] h Q :=
  (X_pure i_224_90 rfl).trans ((X_icI i_224_91 kI_4).trans (X_ic_ne i_224_92 t_92_106))
theorem b_224_95 {d : Nat} {j0 : Nat} {x1 : Int32} {x2 : Int32} {h : HS} {Q : (List V ⊕ Pn) × HS → Prop} : X d 224 95 [vR (11534502, j0), vI x1, vI x2] [] h Q ↔ ((gR h 11534502 j0 0).1 = 3145766 ∧ ((nI 1) = 0 ∨ (nI 1) = 1)) ∧ X d 224 117 [vR (11534502, j0), vI x1, vI x2] [] (sI h 3145766 ((gR h 11534502 j0 0).2) 6 (nI 1)) Q :=
  (X_pure i_224_95 rfl).trans ((X_getR i_224_96 f_224_18).trans ((X_icI i_224_99 kI_1).trans ((X_ppZ i_224_100 f_224_124 o_224_3145766_6).trans (ac ((X_go i_224_103 t_103_117).trans (Iff.rfl))))))
theorem b_224_106 {d : Nat} {j0 : Nat} {x1 : Int32} {x2 : Int32} {h : HS} {Q : (List V ⊕ Pn) × HS → Prop} (hd : 1 ≤ d) : X d 224 106 [vR (11534502, j0), vI x1, vI x2] [] h Q ↔ Ev (d - 1) 219 [vR (11534502, j0)] h (XB d 224 111 3 [vR (11534502, j0), vI x1, vI x2] [vR (gR h 11534502 j0 0)] Q) :=
  (X_pure i_224_106 rfl).trans ((X_getR i_224_107 f_224_18).trans ((X_pure i_224_110 rfl).trans (X_cv hd i_224_111 v_224_128 rfl rfl rfl ⟨rfl, rfl⟩)))
theorem b_224_114 {d : Nat} {j0 : Nat} {x1 : Int32} {x2 : Int32} {ps0 : Pn} {ps1 : Pn} {h : HS} {Q : (List V ⊕ Pn) × HS → Prop} : X d 224 114 [vR (11534502, j0), vI x1, vI x2] [vR ps1, vR ps0] h Q ↔ ps0.1 = 3145766 ∧ X d 224 117 [vR (11534502, j0), vI x1, vI x2] [] (sR h 3145766 ps0.2 7 ps1) Q :=
  (X_ppR i_224_114 f_224_132 o_224_3145766_7).trans (ac (Iff.rfl))
theorem b_224_117 {d : Nat} {j0 : Nat} {x1 : Int32} {x2 : Int32} {h : HS} {Q : (List V ⊕ Pn) × HS → Prop} : X d 224 117 [vR (11534502, j0), vI x1, vI x2] [] h Q ↔ Q (.inl [], h) :=
  X_rv i_224_117 r_224
theorem c_224_19 {d : Nat} {L S : List V} {h : HS} {Q : (List V ⊕ Pn) × HS → Prop} : XB d 224 19 3 L S Q (.inl [], h) ↔ X d 224 22 L S h Q := Iff.rfl
theorem c_224_53 {d : Nat} {L S : List V} {v : V} {h : HS} {Q : (List V ⊕ Pn) × HS → Prop} : XB d 224 53 3 L S Q (.inl [v], h) ↔ X d 224 56 L (v :: S) h Q := Iff.rfl
theorem c_224_83 {d : Nat} {L S : List V} {v : V} {h : HS} {Q : (List V ⊕ Pn) × HS → Prop} : XB d 224 83 3 L S Q (.inl [v], h) ↔ X d 224 86 L (v :: S) h Q := Iff.rfl
theorem c_224_111 {d : Nat} {L S : List V} {v : V} {h : HS} {Q : (List V ⊕ Pn) × HS → Prop} : XB d 224 111 3 L S Q (.inl [v], h) ↔ X d 224 114 L (v :: S) h Q := Iff.rfl
theorem e_224 {d : Nat} {x0 : Nat} {x1 : Int32} {x2 : Int32} {h : HS} {Q : (List V ⊕ Pn) × HS → Prop} : Ev d 224 [vR (11534502, x0), vI x1, vI x2] h Q ↔ X d 224 0 [vR (11534502, x0), vI x1, vI x2] [] h Q := Iff.rfl
-- X11_init
theorem b_225_0 {d : Nat} {p0 : Pn} {h : HS} {Q : (List V ⊕ Pn) × HS → Prop} (hk0 : Nat.ble 1048576 p0.1 = true) : X d 225 0 [vR p0] [] h Q ↔ Q (.inl [], h) :=
  (X_pure i_225_0 rfl).trans ((X_oi i_225_1 v_225_1 (Nat.le_of_ble_eq_true hk0) rfl).trans (X_rv i_225_4 r_225))
theorem e_225 {d : Nat} {x0 : Pn} {h : HS} {Q : (List V ⊕ Pn) × HS → Prop} : Ev d 225 [vR x0] h Q ↔ X d 225 0 [vR x0] [] h Q := Iff.rfl
-- X12_init
theorem b_226_0 {d : Nat} {j0 : Nat} {p1 : Pn} {h : HS} {Q : (List V ⊕ Pn) × HS → Prop} (hd : 1 ≤ d) : X d 226 0 [vR (12583110, j0), vR p1] [] h Q ↔ Ev (d - 1) 225 [vR (12583110, j0)] h (XB d 226 1 3 [vR (12583110, j0), vR p1] [] Q) :=
  (X_pure i_226_0 rfl).trans (X_ci hd i_226_1 v_226_1 rfl (Nat.le_of_ble_eq_true rfl) rfl rfl ⟨rfl, rfl⟩)
theorem b_226_4 {d : Nat} {j0 : Nat} {p1 : Pn} {h : HS} {Q : (List V ⊕ Pn) × HS → Prop} : X d 226 4 [vR (12583110, j0), vR p1] [] h Q ↔ Q (.inl [], sR h 12583110 j0 0 p1) :=
  (X_pure i_226_4 rfl).trans ((X_pure i_226_5 rfl).trans ((X_putR i_226_6 f_226_7 o_226_12583110_0).trans (X_rv i_226_9 r_226)))
theorem c_226_1 {d : Nat} {L S : List V} {h : HS} {Q : (List V ⊕ Pn) × HS → Prop} : XB d 226 1 3 L S Q (.inl [], h) ↔ X d 226 4 L S h Q := Iff.rfl
theorem e_226 {d : Nat} {x0 : Nat} {x1 : Pn} {h : HS} {Q : (List V ⊕ Pn) × HS → Prop} : Ev d 226 [vR (12583110, x0), vR x1] h Q ↔ X d 226 0 [vR (12583110, x0), vR x1] [] h Q := Iff.rfl
-- X12_is
theorem b_227_0 {d : Nat} {j0 : Nat} {p1 : Pn} {h : HS} {Q : (List V ⊕ Pn) × HS → Prop} (hd : 1 ≤ d) {M2 : Nat} (hab : absm 1 (gR h 12583110 j0 0).1 = some M2) (hml : mloc M2 = 2 ∨ 2 ≤ mloc M2) : X d 227 0 [vR (12583110, j0), vR p1] [] h Q ↔ Ev (d - 1) M2 [vR (gR h 12583110 j0 0), vR p1] h (XB d 227 5 3 [vR (12583110, j0), vR p1] [] Q) :=
  (X_pure i_227_0 rfl).trans ((X_getR i_227_1 f_227_7).trans ((X_pure i_227_4 rfl).trans (X_ca hd i_227_5 v_227_13 hab rfl rfl rfl ⟨by show 2 ≤ mloc M2; omega, rfl⟩)))
theorem b_227_8 {d : Nat} {j0 : Nat} {p1 : Pn} {xs0 : Int32} {h : HS} {Q : (List V ⊕ Pn) × HS → Prop} : X d 227 8 [vR (12583110, j0), vR p1] [vI xs0] h Q ↔ if xs0 = 0 then X d 227 11 [vR (12583110, j0), vR p1] [] h Q else X d 227 15 [vR (12583110, j0), vR p1] [] h Q :=
  X_if_ne i_227_8 t_8_15
theorem b_227_11 {d : Nat} {j0 : Nat} {p1 : Pn} {h : HS} {Q : (List V ⊕ Pn) × HS → Prop} : X d 227 11 [vR (12583110, j0), vR p1] [] h Q ↔ X d 227 16 [vR (12583110, j0), vR p1] [vI (nI 1)] h Q :=
  (X_icI i_227_11 kI_1).trans ((X_go i_227_12 t_12_16).trans (Iff.rfl))
theorem b_227_15 {d : Nat} {j0 : Nat} {p1 : Pn} {h : HS} {Q : (List V ⊕ Pn) × HS → Prop} : X d 227 15 [vR (12583110, j0), vR p1] [] h Q ↔ X d 227 16 [vR (12583110, j0), vR p1] [vI (nI 0)] h Q :=
  (X_icI i_227_15 kI_0).trans (Iff.rfl)
theorem b_227_16 {d : Nat} {j0 : Nat} {p1 : Pn} {xs0 : Int32} {h : HS} {Q : (List V ⊕ Pn) × HS → Prop} : X d 227 16 [vR (12583110, j0), vR p1] [vI xs0] h Q ↔ (xs0 = 0 ∨ xs0 = 1) ∧ Q (.inl [vI xs0], h) :=
  X_rz i_227_16 r_227
theorem c_227_5 {d : Nat} {L S : List V} {v : V} {h : HS} {Q : (List V ⊕ Pn) × HS → Prop} : XB d 227 5 3 L S Q (.inl [v], h) ↔ X d 227 8 L (v :: S) h Q := Iff.rfl
theorem e_227 {d : Nat} {x0 : Nat} {x1 : Pn} {h : HS} {Q : (List V ⊕ Pn) × HS → Prop} : Ev d 227 [vR (12583110, x0), vR x1] h Q ↔ X d 227 0 [vR (12583110, x0), vR x1] [] h Q := Iff.rfl
-- X13_init
theorem b_228_0 {d : Nat} {p0 : Pn} {h : HS} {Q : (List V ⊕ Pn) × HS → Prop} (hk0 : Nat.ble 1048576 p0.1 = true) : X d 228 0 [vR p0] [] h Q ↔ Q (.inl [], h) :=
  (X_pure i_228_0 rfl).trans ((X_oi i_228_1 v_228_1 (Nat.le_of_ble_eq_true hk0) rfl).trans (X_rv i_228_4 r_228))
theorem e_228 {d : Nat} {x0 : Pn} {h : HS} {Q : (List V ⊕ Pn) × HS → Prop} : Ev d 228 [vR x0] h Q ↔ X d 228 0 [vR x0] [] h Q := Iff.rfl
-- X14_init
theorem b_229_0 {d : Nat} {j0 : Nat} {y1 : Int64} {h : HS} {Q : (List V ⊕ Pn) × HS → Prop} (hd : 1 ≤ d) : X d 229 0 [vR (13631718, j0), vL y1, vS] [] h Q ↔ Ev (d - 1) 228 [vR (13631718, j0)] h (XB d 229 1 3 [vR (13631718, j0), vL y1, vS] [] Q) :=
  (X_pure i_229_0 rfl).trans (X_ci hd i_229_1 v_229_1 rfl (Nat.le_of_ble_eq_true rfl) rfl rfl ⟨rfl, rfl⟩)
theorem b_229_4 {d : Nat} {j0 : Nat} {y1 : Int64} {h : HS} {Q : (List V ⊕ Pn) × HS → Prop} : X d 229 4 [vR (13631718, j0), vL y1, vS] [] h Q ↔ Q (.inl [], sL h 13631718 j0 0 y1) :=
  (X_pure i_229_4 rfl).trans ((X_pure i_229_5 rfl).trans ((X_putL i_229_6 f_229_7 o_229_13631718_0).trans (X_rv i_229_9 r_229)))
theorem c_229_1 {d : Nat} {L S : List V} {h : HS} {Q : (List V ⊕ Pn) × HS → Prop} : XB d 229 1 3 L S Q (.inl [], h) ↔ X d 229 4 L S h Q := Iff.rfl
theorem e_229 {d : Nat} {x0 : Nat} {x1 : Int64} {h : HS} {Q : (List V ⊕ Pn) × HS → Prop} : Ev d 229 [vR (13631718, x0), vL x1] h Q ↔ X d 229 0 [vR (13631718, x0), vL x1, vS] [] h Q := Iff.rfl
-- X14_of
theorem b_230_0 {d : Nat} {j0 : Nat} {p1 : Pn} {h : HS} {Q : (List V ⊕ Pn) × HS → Prop} : X d 230 0 [vR (13631718, j0), vR p1] [] h Q ↔ Q (.inl [vL (gL h 13631718 j0 0)], h) :=
  (X_pure i_230_0 rfl).trans ((X_getL i_230_1 f_230_7).trans (X_rl i_230_4 r_230))
theorem e_230 {d : Nat} {x0 : Nat} {x1 : Pn} {h : HS} {Q : (List V ⊕ Pn) × HS → Prop} : Ev d 230 [vR (13631718, x0), vR x1] h Q ↔ X d 230 0 [vR (13631718, x0), vR x1] [] h Q := Iff.rfl
-- X15_init
theorem b_231_0 {d : Nat} {j0 : Nat} {x1 : Int32} {h : HS} {Q : (List V ⊕ Pn) × HS → Prop} (hd : 1 ≤ d) : X d 231 0 [vR (14680310, j0), vI x1] [] h Q ↔ Ev (d - 1) 228 [vR (14680310, j0)] h (XB d 231 1 3 [vR (14680310, j0), vI x1] [] Q) :=
  (X_pure i_231_0 rfl).trans (X_ci hd i_231_1 v_231_1 rfl (Nat.le_of_ble_eq_true rfl) rfl rfl ⟨rfl, rfl⟩)
theorem b_231_4 {d : Nat} {j0 : Nat} {x1 : Int32} {h : HS} {Q : (List V ⊕ Pn) × HS → Prop} : X d 231 4 [vR (14680310, j0), vI x1] [] h Q ↔ Q (.inl [], sI h 14680310 j0 0 x1) :=
  (X_pure i_231_4 rfl).trans ((X_pure i_231_5 rfl).trans ((X_putI i_231_6 f_231_7 o_231_14680310_0).trans (X_rv i_231_9 r_231)))
theorem c_231_1 {d : Nat} {L S : List V} {h : HS} {Q : (List V ⊕ Pn) × HS → Prop} : XB d 231 1 3 L S Q (.inl [], h) ↔ X d 231 4 L S h Q := Iff.rfl
theorem e_231 {d : Nat} {x0 : Nat} {x1 : Int32} {h : HS} {Q : (List V ⊕ Pn) × HS → Prop} : Ev d 231 [vR (14680310, x0), vI x1] h Q ↔ X d 231 0 [vR (14680310, x0), vI x1] [] h Q := Iff.rfl
-- X15_of
theorem b_232_0 {d : Nat} {j0 : Nat} {p1 : Pn} {h : HS} {Q : (List V ⊕ Pn) × HS → Prop} (hd : 1 ≤ d) : X d 232 0 [vR (14680310, j0), vR p1] [] h Q ↔ p1.1 = 5242950 ∧ Ev (d - 1) 80 [vR p1, vI (gI h 14680310 j0 0)] h (XB d 232 5 3 [vR (14680310, j0), vR p1] [] Q) :=
  (X_pure i_232_0 rfl).trans ((X_pure i_232_1 rfl).trans ((X_getI i_232_2 f_232_7).trans (X_cp hd i_232_5 v_232_13 rfl rfl rfl ⟨rfl, rfl⟩)))
theorem b_232_8 {d : Nat} {j0 : Nat} {p1 : Pn} {ys0 : Int64} {h : HS} {Q : (List V ⊕ Pn) × HS → Prop} : X d 232 8 [vR (14680310, j0), vR p1] [vL ys0] h Q ↔ Q (.inl [vL ys0], h) :=
  X_rl i_232_8 r_232
theorem c_232_5 {d : Nat} {L S : List V} {v : V} {h : HS} {Q : (List V ⊕ Pn) × HS → Prop} : XB d 232 5 3 L S Q (.inl [v], h) ↔ X d 232 8 L (v :: S) h Q := Iff.rfl
theorem e_232 {d : Nat} {x0 : Nat} {x1 : Pn} {h : HS} {Q : (List V ⊕ Pn) × HS → Prop} : Ev d 232 [vR (14680310, x0), vR x1] h Q ↔ X d 232 0 [vR (14680310, x0), vR x1] [] h Q := Iff.rfl
-- X16_init
theorem b_233_0 {d : Nat} {j0 : Nat} {p1 : Pn} {x2 : Int32} {p3 : Pn} {h : HS} {Q : (List V ⊕ Pn) × HS → Prop} (hd : 1 ≤ d) : X d 233 0 [vR (15728902, j0), vR p1, vI x2, vR p3] [] h Q ↔ Ev (d - 1) 228 [vR (15728902, j0)] h (XB d 233 1 3 [vR (15728902, j0), vR p1, vI x2, vR p3] [] Q) :=
  (X_pure i_233_0 rfl).trans (X_ci hd i_233_1 v_233_1 rfl (Nat.le_of_ble_eq_true rfl) rfl rfl ⟨rfl, rfl⟩)
theorem b_233_4 {d : Nat} {j0 : Nat} {p1 : Pn} {x2 : Int32} {p3 : Pn} {h : HS} {Q : (List V ⊕ Pn) × HS → Prop} : X d 233 4 [vR (15728902, j0), vR p1, vI x2, vR p3] [] h Q ↔ Q (.inl [], sR (sI (sR h 15728902 j0 0 p1) 15728902 j0 2 x2) 15728902 j0 1 p3) :=
  (X_pure i_233_4 rfl).trans ((X_pure i_233_5 rfl).trans ((X_putR i_233_6 f_233_7 o_233_15728902_0).trans ((X_pure i_233_9 rfl).trans ((X_pure i_233_10 rfl).trans ((X_putI i_233_11 f_233_13 o_233_15728902_2).trans ((X_pure i_233_14 rfl).trans ((X_pure i_233_15 rfl).trans ((X_putR i_233_16 f_233_17 o_233_15728902_1).trans (X_rv i_233_19 r_233)))))))))
theorem c_233_1 {d : Nat} {L S : List V} {h : HS} {Q : (List V ⊕ Pn) × HS → Prop} : XB d 233 1 3 L S Q (.inl [], h) ↔ X d 233 4 L S h Q := Iff.rfl
theorem e_233 {d : Nat} {x0 : Nat} {x1 : Pn} {x2 : Int32} {x3 : Pn} {h : HS} {Q : (List V ⊕ Pn) × HS → Prop} : Ev d 233 [vR (15728902, x0), vR x1, vI x2, vR x3] h Q ↔ X d 233 0 [vR (15728902, x0), vR x1, vI x2, vR x3] [] h Q := Iff.rfl
-- X16_of
theorem b_234_0 {d : Nat} {j0 : Nat} {p1 : Pn} {u2 : V} {u3 : V} {u4 : V} {u5 : V} {h : HS} {Q : (List V ⊕ Pn) × HS → Prop} (hd : 1 ≤ d) {M2 : Nat} (hab : absm 0 (gR h 15728902 j0 0).1 = some M2) (hml : mloc M2 = 2 ∨ 2 ≤ mloc M2) : X d 234 0 [vR (15728902, j0), vR p1, u2, u3, u4, u5] [] h Q ↔ Ev (d - 1) M2 [vR (gR h 15728902 j0 0), vR p1] h (XB d 234 5 3 [vR (15728902, j0), vR p1, u2, u3, u4, u5] [] Q) :=
  (X_pure i_234_0 rfl).trans ((X_getR i_234_1 f_234_7).trans ((X_pure i_234_4 rfl).trans (X_ca hd i_234_5 v_234_20 hab rfl rfl rfl ⟨by show 2 ≤ mloc M2; omega, rfl⟩)))
theorem b_234_8 {d : Nat} {j0 : Nat} {p1 : Pn} {u2 : V} {u3 : V} {u4 : V} {u5 : V} {ys0 : Int64} {h : HS} {Q : (List V ⊕ Pn) × HS → Prop} (hd : 1 ≤ d) (nu2 : nl u2 = true) (nu3 : nl u3 = true) {M2 : Nat} (hab : absm 0 (gR h 15728902 j0 1).1 = some M2) (hml : mloc M2 = 2 ∨ 2 ≤ mloc M2) : X d 234 8 [vR (15728902, j0), vR p1, u2, u3, u4, u5] [vL ys0] h Q ↔ Ev (d - 1) M2 [vR (gR h 15728902 j0 1), vR p1] h (XB d 234 14 3 [vR (15728902, j0), vR p1, vL ys0, vS, u4, u5] [] Q) :=
  (X_soL i_234_8 rfl rfl rfl nu2 nu3 rfl).trans ((X_pure i_234_9 rfl).trans ((X_getR i_234_10 f_234_17).trans ((X_pure i_234_13 rfl).trans (X_ca hd i_234_14 v_234_20 hab rfl rfl rfl ⟨by show 2 ≤ mloc M2; omega, rfl⟩))))
theorem b_234_17 {d : Nat} {j0 : Nat} {p1 : Pn} {y2 : Int64} {u4 : V} {u5 : V} {ys0 : Int64} {h : HS} {Q : (List V ⊕ Pn) × HS → Prop} (nu4 : nl u4 = true) (nu5 : nl u5 = true) : X d 234 17 [vR (15728902, j0), vR p1, vL y2, vS, u4, u5] [vL ys0] h Q ↔ if (gI h 15728902 j0 2) = (nI 42) then X d 234 28 [vR (15728902, j0), vR p1, vL y2, vS, vL ys0, vS] [] h Q else X d 234 35 [vR (15728902, j0), vR p1, vL y2, vS, vL ys0, vS] [] h Q :=
  (X_soL i_234_17 rfl rfl rfl nu4 nu5 rfl).trans ((X_pure i_234_19 rfl).trans ((X_getI i_234_20 f_234_13).trans ((X_icB i_234_23 kB_42).trans (X_ic_ne i_234_25 t_25_35))))
theorem b_234_28 {d : Nat} {j0 : Nat} {p1 : Pn} {y2 : Int64} {y4 : Int64} {h : HS} {Q : (List V ⊕ Pn) × HS → Prop} : X d 234 28 [vR (15728902, j0), vR p1, vL y2, vS, vL y4, vS] [] h Q ↔ X d 234 55 [vR (15728902, j0), vR p1, vL y2, vS, vL y4, vS] [vL (y2 * y4)] h Q :=
  (X_pure i_234_28 rfl).trans ((X_pure i_234_29 rfl).trans ((X_pure i_234_31 rfl).trans ((X_go i_234_32 t_32_55).trans (Iff.rfl))))
theorem b_234_35 {d : Nat} {j0 : Nat} {p1 : Pn} {y2 : Int64} {y4 : Int64} {h : HS} {Q : (List V ⊕ Pn) × HS → Prop} : X d 234 35 [vR (15728902, j0), vR p1, vL y2, vS, vL y4, vS] [] h Q ↔ if (gI h 15728902 j0 2) = (nI 43) then X d 234 44 [vR (15728902, j0), vR p1, vL y2, vS, vL y4, vS] [] h Q else X d 234 51 [vR (15728902, j0), vR p1, vL y2, vS, vL y4, vS] [] h Q :=
  (X_pure i_234_35 rfl).trans ((X_getI i_234_36 f_234_13).trans ((X_icB i_234_39 kB_43).trans (X_ic_ne i_234_41 t_41_51)))
theorem b_234_44 {d : Nat} {j0 : Nat} {p1 : Pn} {y2 : Int64} {y4 : Int64} {h : HS} {Q : (List V ⊕ Pn) × HS → Prop} : X d 234 44 [vR (15728902, j0), vR p1, vL y2, vS, vL y4, vS] [] h Q ↔ X d 234 55 [vR (15728902, j0), vR p1, vL y2, vS, vL y4, vS] [vL (y2 + y4)] h Q :=
  (X_pure i_234_44 rfl).trans ((X_pure i_234_45 rfl).trans ((X_pure i_234_47 rfl).trans ((X_go i_234_48 t_48_55).trans (Iff.rfl))))
theorem b_234_51 {d : Nat} {j0 : Nat} {p1 : Pn} {y2 : Int64} {y4 : Int64} {h : HS} {Q : (List V ⊕ Pn) × HS → Prop} : X d 234 51 [vR (15728902, j0), vR p1, vL y2, vS, vL y4, vS] [] h Q ↔ X d 234 55 [vR (15728902, j0), vR p1, vL y2, vS, vL y4, vS] [vL (y2 - y4)] h Q :=
  (X_pure i_234_51 rfl).trans ((X_pure i_234_52 rfl).trans ((X_pure i_234_54 rfl).trans (Iff.rfl)))
theorem b_234_55 {d : Nat} {j0 : Nat} {p1 : Pn} {y2 : Int64} {y4 : Int64} {ys0 : Int64} {h : HS} {Q : (List V ⊕ Pn) × HS → Prop} : X d 234 55 [vR (15728902, j0), vR p1, vL y2, vS, vL y4, vS] [vL ys0] h Q ↔ Q (.inl [vL ys0], h) :=
  X_rl i_234_55 r_234
theorem c_234_5 {d : Nat} {L S : List V} {v : V} {h : HS} {Q : (List V ⊕ Pn) × HS → Prop} : XB d 234 5 3 L S Q (.inl [v], h) ↔ X d 234 8 L (v :: S) h Q := Iff.rfl
theorem c_234_14 {d : Nat} {L S : List V} {v : V} {h : HS} {Q : (List V ⊕ Pn) × HS → Prop} : XB d 234 14 3 L S Q (.inl [v], h) ↔ X d 234 17 L (v :: S) h Q := Iff.rfl
theorem e_234 {d : Nat} {x0 : Nat} {x1 : Pn} {h : HS} {Q : (List V ⊕ Pn) × HS → Prop} : Ev d 234 [vR (15728902, x0), vR x1] h Q ↔ X d 234 0 [vR (15728902, x0), vR x1, vU, vU, vU, vU] [] h Q := Iff.rfl
-- X17_init
theorem b_235_0 {d : Nat} {j0 : Nat} {p1 : Pn} {x2 : Int32} {p3 : Pn} {h : HS} {Q : (List V ⊕ Pn) × HS → Prop} (hd : 1 ≤ d) : X d 235 0 [vR (16777494, j0), vR p1, vI x2, vR p3] [] h Q ↔ Ev (d - 1) 225 [vR (16777494, j0)] h (XB d 235 1 3 [vR (16777494, j0), vR p1, vI x2, vR p3] [] Q) :=
  (X_pure i_235_0 rfl).trans (X_ci hd i_235_1 v_235_1 rfl (Nat.le_of_ble_eq_true rfl) rfl rfl ⟨rfl, rfl⟩)
theorem b_235_4 {d : Nat} {j0 : Nat} {p1 : Pn} {x2 : Int32} {p3 : Pn} {h : HS} {Q : (List V ⊕ Pn) × HS → Prop} : X d 235 4 [vR (16777494, j0), vR p1, vI x2, vR p3] [] h Q ↔ Q (.inl [], sR (sI (sR h 16777494 j0 0 p1) 16777494 j0 2 x2) 16777494 j0 1 p3) :=
  (X_pure i_235_4 rfl).trans ((X_pure i_235_5 rfl).trans ((X_putR i_235_6 f_235_7 o_235_16777494_0).trans ((X_pure i_235_9 rfl).trans ((X_pure i_235_10 rfl).trans ((X_putI i_235_11 f_235_13 o_235_16777494_2).trans ((X_pure i_235_14 rfl).trans ((X_pure i_235_15 rfl).trans ((X_putR i_235_16 f_235_17 o_235_16777494_1).trans (X_rv i_235_19 r_235)))))))))
theorem c_235_1 {d : Nat} {L S : List V} {h : HS} {Q : (List V ⊕ Pn) × HS → Prop} : XB d 235 1 3 L S Q (.inl [], h) ↔ X d 235 4 L S h Q := Iff.rfl
theorem e_235 {d : Nat} {x0 : Nat} {x1 : Pn} {x2 : Int32} {x3 : Pn} {h : HS} {Q : (List V ⊕ Pn) × HS → Prop} : Ev d 235 [vR (16777494, x0), vR x1, vI x2, vR x3] h Q ↔ X d 235 0 [vR (16777494, x0), vR x1, vI x2, vR x3] [] h Q := Iff.rfl
-- X17_is
theorem b_236_0 {d : Nat} {j0 : Nat} {p1 : Pn} {u2 : V} {u3 : V} {u4 : V} {u5 : V} {h : HS} {Q : (List V ⊕ Pn) × HS → Prop} (hd : 1 ≤ d) {M2 : Nat} (hab : absm 0 (gR h 16777494 j0 0).1 = some M2) (hml : mloc M2 = 2 ∨ 2 ≤ mloc M2) : X d 236 0 [vR (16777494, j0), vR p1, u2, u3, u4, u5] [] h Q ↔ Ev (d - 1) M2 [vR (gR h 16777494 j0 0), vR p1] h (XB d 236 5 3 [vR (16777494, j0), vR p1, u2, u3, u4, u5] [] Q) :=
  (X_pure i_236_0 rfl).trans ((X_getR i_236_1 f_236_7).trans ((X_pure i_236_4 rfl).trans (X_ca hd i_236_5 v_236_20 hab rfl rfl rfl ⟨by show 2 ≤ mloc M2; omega, rfl⟩)))
theorem b_236_8 {d : Nat} {j0 : Nat} {p1 : Pn} {u2 : V} {u3 : V} {u4 : V} {u5 : V} {ys0 : Int64} {h : HS} {Q : (List V ⊕ Pn) × HS → Prop} (hd : 1 ≤ d) (nu2 : nl u2 = true) (nu3 : nl u3 = true) {M2 : Nat} (hab : absm 0 (gR h 16777494 j0 1).1 = some M2) (hml : mloc M2 = 2 ∨ 2 ≤ mloc M2) : X d 236 8 [vR (16777494, j0), vR p1, u2, u3, u4, u5] [vL ys0] h Q ↔ Ev (d - 1) M2 [vR (gR h 16777494 j0 1), vR p1] h (XB d 236 14 3 [vR (16777494, j0), vR p1, vL ys0, vS, u4, u5] [] Q) :=
  (X_soL i_236_8 rfl rfl rfl nu2 nu3 rfl).trans ((X_pure i_236_9 rfl).trans ((X_getR i_236_10 f_236_17).trans ((X_pure i_236_13 rfl).trans (X_ca hd i_236_14 v_236_20 hab rfl rfl rfl ⟨by show 2 ≤ mloc M2; omega, rfl⟩))))
theorem b_236_17 {d : Nat} {j0 : Nat} {p1 : Pn} {y2 : Int64} {u4 : V} {u5 : V} {ys0 : Int64} {h : HS} {Q : (List V ⊕ Pn) × HS → Prop} (nu4 : nl u4 = true) (nu5 : nl u5 = true) : X d 236 17 [vR (16777494, j0), vR p1, vL y2, vS, u4, u5] [vL ys0] h Q ↔ X d 236 (tsw 0 [52, 65, 78, 91] 104 (gI h 16777494 j0 2)) [vR (16777494, j0), vR p1, vL y2, vS, vL ys0, vS] [] h Q :=
  (X_soL i_236_17 rfl rfl rfl nu4 nu5 rfl).trans ((X_pure i_236_19 rfl).trans ((X_getI i_236_20 f_236_13).trans (X_tsw i_236_23 t_23_104 (by decide) (by decide +kernel))))
theorem b_236_52 {d : Nat} {j0 : Nat} {p1 : Pn} {y2 : Int64} {y4 : Int64} {h : HS} {Q : (List V ⊕ Pn) × HS → Prop} : X d 236 52 [vR (16777494, j0), vR p1, vL y2, vS, vL y4, vS] [] h Q ↔ if y2 < y4 then X d 236 59 [vR (16777494, j0), vR p1, vL y2, vS, vL y4, vS] [] h Q else X d 236 63 [vR (16777494, j0), vR p1, vL y2, vS, vL y4, vS] [] h Q :=
  (X_pure i_236_52 rfl).trans ((X_pure i_236_53 rfl).trans (X_lc_ge i_236_55 i_236_56 t_56_63))
theorem b_236_59 {d : Nat} {j0 : Nat} {p1 : Pn} {y2 : Int64} {y4 : Int64} {h : HS} {Q : (List V ⊕ Pn) × HS → Prop} : X d 236 59 [vR (16777494, j0), vR p1, vL y2, vS, vL y4, vS] [] h Q ↔ X d 236 64 [vR (16777494, j0), vR p1, vL y2, vS, vL y4, vS] [vI (nI 1)] h Q :=
  (X_icI i_236_59 kI_1).trans ((X_go i_236_60 t_60_64).trans (Iff.rfl))
theorem b_236_63 {d : Nat} {j0 : Nat} {p1 : Pn} {y2 : Int64} {y4 : Int64} {h : HS} {Q : (List V ⊕ Pn) × HS → Prop} : X d 236 63 [vR (16777494, j0), vR p1, vL y2, vS, vL y4, vS] [] h Q ↔ X d 236 64 [vR (16777494, j0), vR p1, vL y2, vS, vL y4, vS] [vI (nI 0)] h Q :=
  (X_icI i_236_63 kI_0).trans (Iff.rfl)
theorem b_236_64 {d : Nat} {j0 : Nat} {p1 : Pn} {y2 : Int64} {y4 : Int64} {xs0 : Int32} {h : HS} {Q : (List V ⊕ Pn) × HS → Prop} : X d 236 64 [vR (16777494, j0), vR p1, vL y2, vS, vL y4, vS] [vI xs0] h Q ↔ (xs0 = 0 ∨ xs0 = 1) ∧ Q (.inl [vI xs0], h) :=
  X_rz i_236_64 r_236
theorem b_236_65 {d : Nat} {j0 : Nat} {p1 : Pn} {y2 : Int64} {y4 : Int64} {h : HS} {Q : (List V ⊕ Pn) × HS → Prop} : X d 236 65 [vR (16777494, j0), vR p1, vL y2, vS, vL y4, vS] [] h Q ↔ if y4 < y2 then X d 236 76 [vR (16777494, j0), vR p1, vL y2, vS, vL y4, vS] [] h Q else X d 236 72 [vR (16777494, j0), vR p1, vL y2, vS, vL y4, vS] [] h Q :=
  (X_pure i_236_65 rfl).trans ((X_pure i_236_66 rfl).trans (X_lc_gt i_236_68 i_236_69 t_69_76))
theorem b_236_72 {d : Nat} {j0 : Nat} {p1 : Pn} {y2 : Int64} {y4 : Int64} {h : HS} {Q : (List V ⊕ Pn) × HS → Prop} : X d 236 72 [vR (16777494, j0), vR p1, vL y2, vS, vL y4, vS] [] h Q ↔ X d 236 77 [vR (16777494, j0), vR p1, vL y2, vS, vL y4, vS] [vI (nI 1)] h Q :=
  (X_icI i_236_72 kI_1).trans ((X_go i_236_73 t_73_77).trans (Iff.rfl))
theorem b_236_76 {d : Nat} {j0 : Nat} {p1 : Pn} {y2 : Int64} {y4 : Int64} {h : HS} {Q : (List V ⊕ Pn) × HS → Prop} : X d 236 76 [vR (16777494, j0), vR p1, vL y2, vS, vL y4, vS] [] h Q ↔ X d 236 77 [vR (16777494, j0), vR p1, vL y2, vS, vL y4, vS] [vI (nI 0)] h Q :=
  (X_icI i_236_76 kI_0).trans (Iff.rfl)
theorem b_236_77 {d : Nat} {j0 : Nat} {p1 : Pn} {y2 : Int64} {y4 : Int64} {xs0 : Int32} {h : HS} {Q : (List V ⊕ Pn) × HS → Prop} : X d 236 77 [vR (16777494, j0), vR p1, vL y2, vS, vL y4, vS] [vI xs0] h Q ↔ (xs0 = 0 ∨ xs0 = 1) ∧ Q (.inl [vI xs0], h) :=
  X_rz i_236_77 r_236
theorem b_236_78 {d : Nat} {j0 : Nat} {p1 : Pn} {y2 : Int64} {y4 : Int64} {h : HS} {Q : (List V ⊕ Pn) × HS → Prop} : X d 236 78 [vR (16777494, j0), vR p1, vL y2, vS, vL y4, vS] [] h Q ↔ if y2 = y4 then X d 236 85 [vR (16777494, j0), vR p1, vL y2, vS, vL y4, vS] [] h Q else X d 236 89 [vR (16777494, j0), vR p1, vL y2, vS, vL y4, vS] [] h Q :=
  (X_pure i_236_78 rfl).trans ((X_pure i_236_79 rfl).trans (X_lc_ne i_236_81 i_236_82 t_82_89))
theorem b_236_85 {d : Nat} {j0 : Nat} {p1 : Pn} {y2 : Int64} {y4 : Int64} {h : HS} {Q : (List V ⊕ Pn) × HS → Prop} : X d 236 85 [vR (16777494, j0), vR p1, vL y2, vS, vL y4, vS] [] h Q ↔ X d 236 90 [vR (16777494, j0), vR p1, vL y2, vS, vL y4, vS] [vI (nI 1)] h Q :=
  (X_icI i_236_85 kI_1).trans ((X_go i_236_86 t_86_90).trans (Iff.rfl))
theorem b_236_89 {d : Nat} {j0 : Nat} {p1 : Pn} {y2 : Int64} {y4 : Int64} {h : HS} {Q : (List V ⊕ Pn) × HS → Prop} : X d 236 89 [vR (16777494, j0), vR p1, vL y2, vS, vL y4, vS] [] h Q ↔ X d 236 90 [vR (16777494, j0), vR p1, vL y2, vS, vL y4, vS] [vI (nI 0)] h Q :=
  (X_icI i_236_89 kI_0).trans (Iff.rfl)
theorem b_236_90 {d : Nat} {j0 : Nat} {p1 : Pn} {y2 : Int64} {y4 : Int64} {xs0 : Int32} {h : HS} {Q : (List V ⊕ Pn) × HS → Prop} : X d 236 90 [vR (16777494, j0), vR p1, vL y2, vS, vL y4, vS] [vI xs0] h Q ↔ (xs0 = 0 ∨ xs0 = 1) ∧ Q (.inl [vI xs0], h) :=
  X_rz i_236_90 r_236
theorem b_236_91 {d : Nat} {j0 : Nat} {p1 : Pn} {y2 : Int64} {y4 : Int64} {h : HS} {Q : (List V ⊕ Pn) × HS → Prop} : X d 236 91 [vR (16777494, j0), vR p1, vL y2, vS, vL y4, vS] [] h Q ↔ if y2 < y4 then X d 236 102 [vR (16777494, j0), vR p1, vL y2, vS, vL y4, vS] [] h Q else X d 236 98 [vR (16777494, j0), vR p1, vL y2, vS, vL y4, vS] [] h Q :=
  (X_pure i_236_91 rfl).trans ((X_pure i_236_92 rfl).trans (X_lc_lt i_236_94 i_236_95 t_95_102))
theorem b_236_98 {d : Nat} {j0 : Nat} {p1 : Pn} {y2 : Int64} {y4 : Int64} {h : HS} {Q : (List V ⊕ Pn) × HS → Prop} : X d 236 98 [vR (16777494, j0), vR p1, vL y2, vS, vL y4, vS] [] h Q ↔ X d 236 103 [vR (16777494, j0), vR p1, vL y2, vS, vL y4, vS] [vI (nI 1)] h Q :=
  (X_icI i_236_98 kI_1).trans ((X_go i_236_99 t_99_103).trans (Iff.rfl))
theorem b_236_102 {d : Nat} {j0 : Nat} {p1 : Pn} {y2 : Int64} {y4 : Int64} {h : HS} {Q : (List V ⊕ Pn) × HS → Prop} : X d 236 102 [vR (16777494, j0), vR p1, vL y2, vS, vL y4, vS] [] h Q ↔ X d 236 103 [vR (16777494, j0), vR p1, vL y2, vS, vL y4, vS] [vI (nI 0)] h Q :=
  (X_icI i_236_102 kI_0).trans (Iff.rfl)
theorem b_236_103 {d : Nat} {j0 : Nat} {p1 : Pn} {y2 : Int64} {y4 : Int64} {xs0 : Int32} {h : HS} {Q : (List V ⊕ Pn) × HS → Prop} : X d 236 103 [vR (16777494, j0), vR p1, vL y2, vS, vL y4, vS] [vI xs0] h Q ↔ (xs0 = 0 ∨ xs0 = 1) ∧ Q (.inl [vI xs0], h) :=
  X_rz i_236_103 r_236
theorem b_236_104 {d : Nat} {j0 : Nat} {p1 : Pn} {y2 : Int64} {y4 : Int64} {h : HS} {Q : (List V ⊕ Pn) × HS → Prop} : X d 236 104 [vR (16777494, j0), vR p1, vL y2, vS, vL y4, vS] [] h Q ↔ if y4 < y2 then X d 236 111 [vR (16777494, j0), vR p1, vL y2, vS, vL y4, vS] [] h Q else X d 236 115 [vR (16777494, j0), vR p1, vL y2, vS, vL y4, vS] [] h Q :=
  (X_pure i_236_104 rfl).trans ((X_pure i_236_105 rfl).trans (X_lc_le i_236_107 i_236_108 t_108_115))
theorem b_236_111 {d : Nat} {j0 : Nat} {p1 : Pn} {y2 : Int64} {y4 : Int64} {h : HS} {Q : (List V ⊕ Pn) × HS → Prop} : X d 236 111 [vR (16777494, j0), vR p1, vL y2, vS, vL y4, vS] [] h Q ↔ X d 236 116 [vR (16777494, j0), vR p1, vL y2, vS, vL y4, vS] [vI (nI 1)] h Q :=
  (X_icI i_236_111 kI_1).trans ((X_go i_236_112 t_112_116).trans (Iff.rfl))
theorem b_236_115 {d : Nat} {j0 : Nat} {p1 : Pn} {y2 : Int64} {y4 : Int64} {h : HS} {Q : (List V ⊕ Pn) × HS → Prop} : X d 236 115 [vR (16777494, j0), vR p1, vL y2, vS, vL y4, vS] [] h Q ↔ X d 236 116 [vR (16777494, j0), vR p1, vL y2, vS, vL y4, vS] [vI (nI 0)] h Q :=
  (X_icI i_236_115 kI_0).trans (Iff.rfl)
theorem b_236_116 {d : Nat} {j0 : Nat} {p1 : Pn} {y2 : Int64} {y4 : Int64} {xs0 : Int32} {h : HS} {Q : (List V ⊕ Pn) × HS → Prop} : X d 236 116 [vR (16777494, j0), vR p1, vL y2, vS, vL y4, vS] [vI xs0] h Q ↔ (xs0 = 0 ∨ xs0 = 1) ∧ Q (.inl [vI xs0], h) :=
  X_rz i_236_116 r_236
theorem c_236_5 {d : Nat} {L S : List V} {v : V} {h : HS} {Q : (List V ⊕ Pn) × HS → Prop} : XB d 236 5 3 L S Q (.inl [v], h) ↔ X d 236 8 L (v :: S) h Q := Iff.rfl
theorem c_236_14 {d : Nat} {L S : List V} {v : V} {h : HS} {Q : (List V ⊕ Pn) × HS → Prop} : XB d 236 14 3 L S Q (.inl [v], h) ↔ X d 236 17 L (v :: S) h Q := Iff.rfl
theorem e_236 {d : Nat} {x0 : Nat} {x1 : Pn} {h : HS} {Q : (List V ⊕ Pn) × HS → Prop} : Ev d 236 [vR (16777494, x0), vR x1] h Q ↔ X d 236 0 [vR (16777494, x0), vR x1, vU, vU, vU, vU] [] h Q := Iff.rfl
-- X18_init
theorem b_237_0 {d : Nat} {j0 : Nat} {p1 : Pn} {x2 : Int32} {p3 : Pn} {h : HS} {Q : (List V ⊕ Pn) × HS → Prop} (hd : 1 ≤ d) : X d 237 0 [vR (17826086, j0), vR p1, vI x2, vR p3] [] h Q ↔ Ev (d - 1) 225 [vR (17826086, j0)] h (XB d 237 1 3 [vR (17826086, j0), vR p1, vI x2, vR p3] [] Q) :=
  (X_pure i_237_0 rfl).trans (X_ci hd i_237_1 v_237_1 rfl (Nat.le_of_ble_eq_true rfl) rfl rfl ⟨rfl, rfl⟩)
theorem b_237_4 {d : Nat} {j0 : Nat} {p1 : Pn} {x2 : Int32} {p3 : Pn} {h : HS} {Q : (List V ⊕ Pn) × HS → Prop} : X d 237 4 [vR (17826086, j0), vR p1, vI x2, vR p3] [] h Q ↔ (x2 = 0 ∨ x2 = 1) ∧ Q (.inl [], sR (sI (sR h 17826086 j0 0 p1) 17826086 j0 2 x2) 17826086 j0 1 p3) :=
  (X_pure i_237_4 rfl).trans ((X_pure i_237_5 rfl).trans ((X_putR i_237_6 f_237_7 o_237_17826086_0).trans ((X_pure i_237_9 rfl).trans ((X_pure i_237_10 rfl).trans ((X_putZ i_237_11 f_237_13 o_237_17826086_2).trans (ac ((X_pure i_237_14 rfl).trans ((X_pure i_237_15 rfl).trans ((X_putR i_237_16 f_237_17 o_237_17826086_1).trans (X_rv i_237_19 r_237))))))))))
theorem c_237_1 {d : Nat} {L S : List V} {h : HS} {Q : (List V ⊕ Pn) × HS → Prop} : XB d 237 1 3 L S Q (.inl [], h) ↔ X d 237 4 L S h Q := Iff.rfl
theorem e_237 {d : Nat} {x0 : Nat} {x1 : Pn} {x2 : Int32} {x3 : Pn} {h : HS} {Q : (List V ⊕ Pn) × HS → Prop} : Ev d 237 [vR (17826086, x0), vR x1, vI x2, vR x3] h Q ↔ X d 237 0 [vR (17826086, x0), vR x1, vI x2, vR x3] [] h Q := Iff.rfl
-- X18_is
theorem b_238_0 {d : Nat} {j0 : Nat} {p1 : Pn} {h : HS} {Q : (List V ⊕ Pn) × HS → Prop} : X d 238 0 [vR (17826086, j0), vR p1] [] h Q ↔ if (gI h 17826086 j0 2) = 0 then X d 238 37 [vR (17826086, j0), vR p1] [] h Q else X d 238 7 [vR (17826086, j0), vR p1] [] h Q :=
  (X_pure i_238_0 rfl).trans ((X_getZ i_238_1 f_238_13).trans (X_if_eq i_238_4 t_4_37))
theorem b_238_7 {d : Nat} {j0 : Nat} {p1 : Pn} {h : HS} {Q : (List V ⊕ Pn) × HS → Prop} (hd : 1 ≤ d) {M2 : Nat} (hab : absm 1 (gR h 17826086 j0 0).1 = some M2) (hml : mloc M2 = 2 ∨ 2 ≤ mloc M2) : X d 238 7 [vR (17826086, j0), vR p1] [] h Q ↔ Ev (d - 1) M2 [vR (gR h 17826086 j0 0), vR p1] h (XB d 238 12 3 [vR (17826086, j0), vR p1] [] Q) :=
  (X_pure i_238_7 rfl).trans ((X_getR i_238_8 f_238_7).trans ((X_pure i_238_11 rfl).trans (X_ca hd i_238_12 v_238_20 hab rfl rfl rfl ⟨by show 2 ≤ mloc M2; omega, rfl⟩)))
theorem b_238_15 {d : Nat} {j0 : Nat} {p1 : Pn} {xs0 : Int32} {h : HS} {Q : (List V ⊕ Pn) × HS → Prop} : X d 238 15 [vR (17826086, j0), vR p1] [vI xs0] h Q ↔ if xs0 = 0 then X d 238 33 [vR (17826086, j0), vR p1] [] h Q else X d 238 18 [vR (17826086, j0), vR p1] [] h Q :=
  X_if_eq i_238_15 t_15_33
theorem b_238_18 {d : Nat} {j0 : Nat} {p1 : Pn} {h : HS} {Q : (List V ⊕ Pn) × HS → Prop} (hd : 1 ≤ d) {M2 : Nat} (hab : absm 1 (gR h 17826086 j0 1).1 = some M2) (hml : mloc M2 = 2 ∨ 2 ≤ mloc M2) : X d 238 18 [vR (17826086, j0), vR p1] [] h Q ↔ Ev (d - 1) M2 [vR (gR h 17826086 j0 1), vR p1] h (XB d 238 23 3 [vR (17826086, j0), vR p1] [] Q) :=
  (X_pure i_238_18 rfl).trans ((X_getR i_238_19 f_238_17).trans ((X_pure i_238_22 rfl).trans (X_ca hd i_238_23 v_238_20 hab rfl rfl rfl ⟨by show 2 ≤ mloc M2; omega, rfl⟩)))
theorem b_238_26 {d : Nat} {j0 : Nat} {p1 : Pn} {xs0 : Int32} {h : HS} {Q : (List V ⊕ Pn) × HS → Prop} : X d 238 26 [vR (17826086, j0), vR p1] [vI xs0] h Q ↔ if xs0 = 0 then X d 238 33 [vR (17826086, j0), vR p1] [] h Q else X d 238 29 [vR (17826086, j0), vR p1] [] h Q :=
  X_if_eq i_238_26 t_26_33
theorem b_238_29 {d : Nat} {j0 : Nat} {p1 : Pn} {h : HS} {Q : (List V ⊕ Pn) × HS → Prop} : X d 238 29 [vR (17826086, j0), vR p1] [] h Q ↔ X d 238 64 [vR (17826086, j0), vR p1] [vI (nI 1)] h Q :=
  (X_icI i_238_29 kI_1).trans ((X_go i_238_30 t_30_64).trans (Iff.rfl))
theorem b_238_33 {d : Nat} {j0 : Nat} {p1 : Pn} {h : HS} {Q : (List V ⊕ Pn) × HS → Prop} : X d 238 33 [vR (17826086, j0), vR p1] [] h Q ↔ X d 238 64 [vR (17826086, j0), vR p1] [vI (nI 0)] h Q :=
  (X_icI i_238_33 kI_0).trans ((X_go i_238_34 t_34_64).trans (Iff.rfl))
theorem b_238_37 {d : Nat} {j0 : Nat} {p1 : Pn} {h : HS} {Q : (List V ⊕ Pn) × HS → Prop} (hd : 1 ≤ d) {M2 : Nat} (hab : absm 1 (gR h 17826086 j0 0).1 = some M2) (hml : mloc M2 = 2 ∨ 2 ≤ mloc M2) : X d 238 37 [vR (17826086, j0), vR p1] [] h Q ↔ Ev (d - 1) M2 [vR (gR h 17826086 j0 0), vR p1] h (XB d 238 42 3 [vR (17826086, j0), vR p1] [] Q) :=
  (X_pure i_238_37 rfl).trans ((X_getR i_238_38 f_238_7).trans ((X_pure i_238_41 rfl).trans (X_ca hd i_238_42 v_238_20 hab rfl rfl rfl ⟨by show 2 ≤ mloc M2; omega, rfl⟩)))
theorem b_238_45 {d : Nat} {j0 : Nat} {p1 : Pn} {xs0 : Int32} {h : HS} {Q : (List V ⊕ Pn) × HS → Prop} : X d 238 45 [vR (17826086, j0), vR p1] [vI xs0] h Q ↔ if xs0 = 0 then X d 238 48 [vR (17826086, j0), vR p1] [] h Q else X d 238 59 [vR (17826086, j0), vR p1] [] h Q :=
  X_if_ne i_238_45 t_45_59
theorem b_238_48 {d : Nat} {j0 : Nat} {p1 : Pn} {h : HS} {Q : (List V ⊕ Pn) × HS → Prop} (hd : 1 ≤ d) {M2 : Nat} (hab : absm 1 (gR h 17826086 j0 1).1 = some M2) (hml : mloc M2 = 2 ∨ 2 ≤ mloc M2) : X d 238 48 [vR (17826086, j0), vR p1] [] h Q ↔ Ev (d - 1) M2 [vR (gR h 17826086 j0 1), vR p1] h (XB d 238 53 3 [vR (17826086, j0), vR p1] [] Q) :=
  (X_pure i_238_48 rfl).trans ((X_getR i_238_49 f_238_17).trans ((X_pure i_238_52 rfl).trans (X_ca hd i_238_53 v_238_20 hab rfl rfl rfl ⟨by show 2 ≤ mloc M2; omega, rfl⟩)))
theorem b_238_56 {d : Nat} {j0 : Nat} {p1 : Pn} {xs0 : Int32} {h : HS} {Q : (List V ⊕ Pn) × HS → Prop} : X d 238 56 [vR (17826086, j0), vR p1] [vI xs0] h Q ↔ if xs0 = 0 then X d 238 63 [vR (17826086, j0), vR p1] [] h Q else X d 238 59 [vR (17826086, j0), vR p1] [] h Q :=
  X_if_eq i_238_56 t_56_63
theorem b_238_59 {d : Nat} {j0 : Nat} {p1 : Pn} {h : HS} {Q : (List V ⊕ Pn) × HS → Prop} : X d 238 59 [vR (17826086, j0), vR p1] [] h Q ↔ X d 238 64 [vR (17826086, j0), vR p1] [vI (nI 1)] h Q :=
  (X_icI i_238_59 kI_1).trans ((X_go i_238_60 t_60_64).trans (Iff.rfl))
theorem b_238_63 {d : Nat} {j0 : Nat} {p1 : Pn} {h : HS} {Q : (List V ⊕ Pn) × HS → Prop} : X d 238 63 [vR (17826086, j0), vR p1] [] h Q ↔ X d 238 64 [vR (17826086, j0), vR p1] [vI (nI 0)] h Q :=
  (X_icI i_238_63 kI_0).trans (Iff.rfl)
theorem b_238_64 {d : Nat} {j0 : Nat} {p1 : Pn} {xs0 : Int32} {h : HS} {Q : (List V ⊕ Pn) × HS → Prop} : X d 238 64 [vR (17826086, j0), vR p1] [vI xs0] h Q ↔ (xs0 = 0 ∨ xs0 = 1) ∧ Q (.inl [vI xs0], h) :=
  X_rz i_238_64 r_238
theorem c_238_12 {d : Nat} {L S : List V} {v : V} {h : HS} {Q : (List V ⊕ Pn) × HS → Prop} : XB d 238 12 3 L S Q (.inl [v], h) ↔ X d 238 15 L (v :: S) h Q := Iff.rfl
theorem c_238_23 {d : Nat} {L S : List V} {v : V} {h : HS} {Q : (List V ⊕ Pn) × HS → Prop} : XB d 238 23 3 L S Q (.inl [v], h) ↔ X d 238 26 L (v :: S) h Q := Iff.rfl
theorem c_238_42 {d : Nat} {L S : List V} {v : V} {h : HS} {Q : (List V ⊕ Pn) × HS → Prop} : XB d 238 42 3 L S Q (.inl [v], h) ↔ X d 238 45 L (v :: S) h Q := Iff.rfl
theorem c_238_53 {d : Nat} {L S : List V} {v : V} {h : HS} {Q : (List V ⊕ Pn) × HS → Prop} : XB d 238 53 3 L S Q (.inl [v], h) ↔ X d 238 56 L (v :: S) h Q := Iff.rfl
theorem e_238 {d : Nat} {x0 : Nat} {x1 : Pn} {h : HS} {Q : (List V ⊕ Pn) × HS → Prop} : Ev d 238 [vR (17826086, x0), vR x1] h Q ↔ X d 238 0 [vR (17826086, x0), vR x1] [] h Q := Iff.rfl
-- X19_of
theorem b_239_0 {d : Nat} {j0 : Nat} {p1 : Pn} {h : HS} {Q : (List V ⊕ Pn) × HS → Prop} : X d 239 0 [vR (18874678, j0), vR p1] [] h Q ↔ p1.1 = 9437318 ∧ (if (gI h 9437318 p1.2 7) = (gI h 18874678 j0 0) then X d 239 11 [vR (18874678, j0), vR p1] [] h Q else X d 239 54 [vR (18874678, j0), vR p1] [] h Q) :=
  (X_pure i_239_0 rfl).trans ((X_gpZ i_239_1 f_239_26).trans (ac ((X_pure i_239_4 rfl).trans ((X_getZ i_239_5 f_239_7).trans (X_ic_ne i_239_8 t_8_54)))))
theorem b_239_11 {d : Nat} {j0 : Nat} {p1 : Pn} {h : HS} {Q : (List V ⊕ Pn) × HS → Prop} : X d 239 11 [vR (18874678, j0), vR p1] [] h Q ↔ p1.1 = 9437318 ∧ (if (((gI h 18874678 j0 1) >>> ((gI h 9437318 p1.2 1) &&& 31)) &&& (nI 1)) = (nI 1) then X d 239 26 [vR (18874678, j0), vR p1] [] h Q else X d 239 54 [vR (18874678, j0), vR p1] [] h Q) :=
  (X_pure i_239_11 rfl).trans ((X_getI i_239_12 f_239_13).trans ((X_pure i_239_15 rfl).trans ((X_gpI i_239_16 f_239_29).trans (ac ((X_pure i_239_19 rfl).trans ((X_icI i_239_20 kI_1).trans ((X_pure i_239_21 rfl).trans ((X_icI i_239_22 kI_1).trans (X_ic_ne i_239_23 t_23_54)))))))))
theorem b_239_26 {d : Nat} {j0 : Nat} {p1 : Pn} {h : HS} {Q : (List V ⊕ Pn) × HS → Prop} (hd : 1 ≤ d) : X d 239 26 [vR (18874678, j0), vR p1] [] h Q ↔ p1.1 = 9437318 ∧ Ev (d - 1) 2 [vL ((gI h 9437318 p1.2 2).toInt64), vL ((gI h 18874678 j0 2).toInt64), vL ((gI h 18874678 j0 3).toInt64)] h (XB d 239 41 3 [vR (18874678, j0), vR p1] [] Q) :=
  (X_pure i_239_26 rfl).trans ((X_gpI i_239_27 f_239_32).trans (ac ((X_pure i_239_30 rfl).trans ((X_pure i_239_31 rfl).trans ((X_getI i_239_32 f_239_17).trans ((X_pure i_239_35 rfl).trans ((X_pure i_239_36 rfl).trans ((X_getI i_239_37 f_239_20).trans ((X_pure i_239_40 rfl).trans (X_cs hd i_239_41 v_239_35 rfl ⟨rfl, rfl⟩))))))))))
theorem b_239_44 {d : Nat} {j0 : Nat} {p1 : Pn} {xs0 : Int32} {h : HS} {Q : (List V ⊕ Pn) × HS → Prop} : X d 239 44 [vR (18874678, j0), vR p1] [vI xs0] h Q ↔ if xs0 = 0 then X d 239 54 [vR (18874678, j0), vR p1] [] h Q else X d 239 47 [vR (18874678, j0), vR p1] [] h Q :=
  X_if_eq i_239_44 t_44_54
theorem b_239_47 {d : Nat} {j0 : Nat} {p1 : Pn} {h : HS} {Q : (List V ⊕ Pn) × HS → Prop} : X d 239 47 [vR (18874678, j0), vR p1] [] h Q ↔ p1.1 = 9437318 ∧ X d 239 55 [vR (18874678, j0), vR p1] [vI (gI h 9437318 p1.2 4)] h Q :=
  (X_pure i_239_47 rfl).trans ((X_gpI i_239_48 f_239_41).trans (ac ((X_go i_239_51 t_51_55).trans (Iff.rfl))))
theorem b_239_54 {d : Nat} {j0 : Nat} {p1 : Pn} {h : HS} {Q : (List V ⊕ Pn) × HS → Prop} : X d 239 54 [vR (18874678, j0), vR p1] [] h Q ↔ X d 239 55 [vR (18874678, j0), vR p1] [vI (nI 0)] h Q :=
  (X_icI i_239_54 kI_0).trans (Iff.rfl)
theorem b_239_55 {d : Nat} {j0 : Nat} {p1 : Pn} {xs0 : Int32} {h : HS} {Q : (List V ⊕ Pn) × HS → Prop} : X d 239 55 [vR (18874678, j0), vR p1] [vI xs0] h Q ↔ Q (.inl [vI xs0], h) :=
  X_ri i_239_55 r_239
theorem c_239_41 {d : Nat} {L S : List V} {v : V} {h : HS} {Q : (List V ⊕ Pn) × HS → Prop} : XB d 239 41 3 L S Q (.inl [v], h) ↔ X d 239 44 L (v :: S) h Q := Iff.rfl
theorem e_239 {d : Nat} {x0 : Nat} {x1 : Pn} {h : HS} {Q : (List V ⊕ Pn) × HS → Prop} : Ev d 239 [vR (18874678, x0), vR x1] h Q ↔ X d 239 0 [vR (18874678, x0), vR x1] [] h Q := Iff.rfl
