/-! the context at the start of the law (printed by geninit.py) -/
set_option maxRecDepth 1000000
def canT : List (String × Nat) := [("BelowWorth", 49), ("BelowWorth", 51), ("BelowWorth", 53), ("BelowWorth", 55), ("BelowWorth", 57), ("BelowWorth", 59), ("BelowWorth", 61), ("BelowWorth", 63), ("BelowWorth", 65), ("BelowWorth", 67), ("BelowWorth", 69), ("BelowWorth", 70), ("BelowWorth", 72), ("BelowWorth", 78), ("BelowWorth", 80), ("BelowWorth", 82), ("BelowWorth", 84), ("BelowWorth$Fault", 1), ("BelowWorth$Text", 87), ("BelowWorth$Text", 89), ("BelowWorth$Text", 94), ("BelowWorth$Text", 96), ("BelowWorth$Text", 98), ("BelowWorth$Text", 138), ("BelowWorth$Text", 151), ("BelowWorth$Text", 161), ("BelowWorth$Text", 163)]
def sTm (j : Nat) : Term := .string (canT.getD j ("", 0)).1 (canT.getD j ("", 0)).2
def sFv (j : Nat) : Term := .field (sTm j) "java/lang/String" "value" "[B"
def sCo (j : Nat) : List Cond := .exactly (sTm j) "java/lang/String" :: .eq (.field (sTm j) "java/lang/String" "coder" "B") (.int 0) :: .arrayOf (sFv j) .byte :: .eq (.length (sFv j)) (.int (Int32.ofNat (slen j))) :: (List.range (slen j)).map (fun i => .eq (.elem (sFv j) (.int (Int32.ofNat i))) (.int (sch j i)))
theorem sco_0 : ∀ w ∈ sCo 0, w ∈ flatC (Jvm.Cond.and given_1 narrow_1) := by decide +kernel
theorem sco_1 : ∀ w ∈ sCo 1, w ∈ flatC (Jvm.Cond.and given_1 narrow_1) := by decide +kernel
theorem sco_2 : ∀ w ∈ sCo 2, w ∈ flatC (Jvm.Cond.and given_1 narrow_1) := by decide +kernel
theorem sco_3 : ∀ w ∈ sCo 3, w ∈ flatC (Jvm.Cond.and given_1 narrow_1) := by decide +kernel
theorem sco_4 : ∀ w ∈ sCo 4, w ∈ flatC (Jvm.Cond.and given_1 narrow_1) := by decide +kernel
theorem sco_5 : ∀ w ∈ sCo 5, w ∈ flatC (Jvm.Cond.and given_1 narrow_1) := by decide +kernel
theorem sco_6 : ∀ w ∈ sCo 6, w ∈ flatC (Jvm.Cond.and given_1 narrow_1) := by decide +kernel
theorem sco_7 : ∀ w ∈ sCo 7, w ∈ flatC (Jvm.Cond.and given_1 narrow_1) := by decide +kernel
theorem sco_8 : ∀ w ∈ sCo 8, w ∈ flatC (Jvm.Cond.and given_1 narrow_1) := by decide +kernel
theorem sco_9 : ∀ w ∈ sCo 9, w ∈ flatC (Jvm.Cond.and given_1 narrow_1) := by decide +kernel
theorem sco_10 : ∀ w ∈ sCo 10, w ∈ flatC (Jvm.Cond.and given_1 narrow_1) := by decide +kernel
theorem sco_11 : ∀ w ∈ sCo 11, w ∈ flatC (Jvm.Cond.and given_1 narrow_1) := by decide +kernel
theorem sco_12 : ∀ w ∈ sCo 12, w ∈ flatC (Jvm.Cond.and given_1 narrow_1) := by decide +kernel
theorem sco_13 : ∀ w ∈ sCo 13, w ∈ flatC (Jvm.Cond.and given_1 narrow_1) := by decide +kernel
theorem sco_14 : ∀ w ∈ sCo 14, w ∈ flatC (Jvm.Cond.and given_1 narrow_1) := by decide +kernel
theorem sco_15 : ∀ w ∈ sCo 15, w ∈ flatC (Jvm.Cond.and given_1 narrow_1) := by decide +kernel
theorem sco_16 : ∀ w ∈ sCo 16, w ∈ flatC (Jvm.Cond.and given_1 narrow_1) := by decide +kernel
theorem sco_17 : ∀ w ∈ sCo 17, w ∈ flatC (Jvm.Cond.and given_1 narrow_1) := by decide +kernel
theorem sco_18 : ∀ w ∈ sCo 18, w ∈ flatC (Jvm.Cond.and given_1 narrow_1) := by decide +kernel
theorem sco_19 : ∀ w ∈ sCo 19, w ∈ flatC (Jvm.Cond.and given_1 narrow_1) := by decide +kernel
theorem sco_20 : ∀ w ∈ sCo 20, w ∈ flatC (Jvm.Cond.and given_1 narrow_1) := by decide +kernel
theorem sco_21 : ∀ w ∈ sCo 21, w ∈ flatC (Jvm.Cond.and given_1 narrow_1) := by decide +kernel
theorem sco_22 : ∀ w ∈ sCo 22, w ∈ flatC (Jvm.Cond.and given_1 narrow_1) := by decide +kernel
theorem sco_23 : ∀ w ∈ sCo 23, w ∈ flatC (Jvm.Cond.and given_1 narrow_1) := by decide +kernel
theorem sco_24 : ∀ w ∈ sCo 24, w ∈ flatC (Jvm.Cond.and given_1 narrow_1) := by decide +kernel
theorem sco_25 : ∀ w ∈ sCo 25, w ∈ flatC (Jvm.Cond.and given_1 narrow_1) := by decide +kernel
theorem sco_26 : ∀ w ∈ sCo 26, w ∈ flatC (Jvm.Cond.and given_1 narrow_1) := by decide +kernel
theorem sco (j : Nat) (hj : j < 27) : ∀ w ∈ sCo j, w ∈ flatC (Jvm.Cond.and given_1 narrow_1) := by
  match j, hj with
  | 0, _ => exact sco_0
  | 1, _ => exact sco_1
  | 2, _ => exact sco_2
  | 3, _ => exact sco_3
  | 4, _ => exact sco_4
  | 5, _ => exact sco_5
  | 6, _ => exact sco_6
  | 7, _ => exact sco_7
  | 8, _ => exact sco_8
  | 9, _ => exact sco_9
  | 10, _ => exact sco_10
  | 11, _ => exact sco_11
  | 12, _ => exact sco_12
  | 13, _ => exact sco_13
  | 14, _ => exact sco_14
  | 15, _ => exact sco_15
  | 16, _ => exact sco_16
  | 17, _ => exact sco_17
  | 18, _ => exact sco_18
  | 19, _ => exact sco_19
  | 20, _ => exact sco_20
  | 21, _ => exact sco_21
  | 22, _ => exact sco_22
  | 23, _ => exact sco_23
  | 24, _ => exact sco_24
  | 25, _ => exact sco_25
  | 26, _ => exact sco_26
  | j + 27, hj => exact absurd hj (by omega)
def refT : List (String × Nat × Nat) := [("BelowWorth", 49, 0), ("BelowWorthModel", 326, 0), ("BelowWorth", 51, 1), ("BelowWorthModel", 328, 1), ("BelowWorth", 53, 2), ("BelowWorthModel", 330, 2), ("BelowWorth", 55, 3), ("BelowWorthModel", 332, 3), ("BelowWorth", 57, 4), ("BelowWorthModel", 334, 4), ("BelowWorth", 59, 5), ("BelowWorthModel", 336, 5), ("BelowWorth", 61, 6), ("BelowWorthModel", 338, 6), ("BelowWorth", 63, 7), ("BelowWorthModel", 340, 7), ("BelowWorth", 65, 8), ("BelowWorthModel", 342, 8), ("BelowWorth", 67, 9), ("BelowWorthModel", 343, 9), ("BelowWorth", 69, 10), ("BelowWorthModel", 345, 10), ("BelowWorth", 70, 11), ("BelowWorthModel", 346, 11), ("BelowWorth", 72, 12), ("BelowWorthModel", 348, 12), ("BelowWorth", 78, 13), ("BelowWorthModel", 358, 13), ("BelowWorth", 80, 14), ("BelowWorthModel", 360, 14), ("BelowWorth", 82, 15), ("BelowWorthModel", 362, 15), ("BelowWorth", 84, 16), ("BelowWorthModel", 364, 16), ("BelowWorth$Fault", 1, 17), ("BelowWorth$Text", 87, 18), ("BelowWorthModel", 366, 18), ("BelowWorth$Text", 89, 19), ("BelowWorthModel", 356, 19), ("BelowWorth$Text", 94, 20), ("BelowWorthModel", 350, 20), ("BelowWorth$Text", 96, 21), ("BelowWorthModel", 352, 21), ("BelowWorth$Text", 98, 22), ("BelowWorthModel", 354, 22), ("BelowWorth$Text", 138, 23), ("BelowWorthModel", 452, 23), ("BelowWorth$Text", 151, 24), ("BelowWorthModel", 441, 24), ("BelowWorth$Text", 161, 25), ("BelowWorthModel", 439, 25), ("BelowWorth$Text", 163, 26), ("BelowWorthModel", 427, 26)]
theorem ref_all : lw_tbl.all (fun w => match w with
  | .stringRef ow i tx => refT.any (fun q => decide (q.1 = ow) && decide (q.2.1 = i) && decide (strN q.2.2 = tx))
  | _ => true) = true := by decide +kernel
theorem strN_inj : ∀ i : Fin 27, ∀ j : Fin 27, strN i = strN j → i = j := by decide +kernel
def SEv (args : Array Value) (s : State) (aK : Nat → Nat) (q : String × Nat × Nat) : Prop := (Term.string q.1 q.2.1).eval args s none [] s = some (.ref (aK q.2.2))
theorem ref_ev {args : Array Value} {s : State} {aK : Nat → Nat} (hs : ∀ w ∈ flatC (Jvm.Cond.and given_1 narrow_1), w.before args s = true) (h0 : ∀ j, j < 27 → (sTm j).eval args s none [] s = some (.ref (aK j))) : ∀ q ∈ refT, SEv args s aK q := by
  exact (List.forall_mem_cons.mpr ⟨(h0 0 (by decide)), (List.forall_mem_cons.mpr ⟨(va_eqR (t := .string "BelowWorth" 49) (u := .string "BelowWorthModel" 326) (hs _ (by decide +kernel)) (h0 0 (by decide))), (List.forall_mem_cons.mpr ⟨(h0 1 (by decide)), (List.forall_mem_cons.mpr ⟨(va_eqR (t := .string "BelowWorth" 51) (u := .string "BelowWorthModel" 328) (hs _ (by decide +kernel)) (h0 1 (by decide))), (List.forall_mem_cons.mpr ⟨(h0 2 (by decide)), (List.forall_mem_cons.mpr ⟨(va_eqR (t := .string "BelowWorth" 53) (u := .string "BelowWorthModel" 330) (hs _ (by decide +kernel)) (h0 2 (by decide))), (List.forall_mem_cons.mpr ⟨(h0 3 (by decide)), (List.forall_mem_cons.mpr ⟨(va_eqR (t := .string "BelowWorth" 55) (u := .string "BelowWorthModel" 332) (hs _ (by decide +kernel)) (h0 3 (by decide))), (List.forall_mem_cons.mpr ⟨(h0 4 (by decide)), (List.forall_mem_cons.mpr ⟨(va_eqR (t := .string "BelowWorth" 57) (u := .string "BelowWorthModel" 334) (hs _ (by decide +kernel)) (h0 4 (by decide))), (List.forall_mem_cons.mpr ⟨(h0 5 (by decide)), (List.forall_mem_cons.mpr ⟨(va_eqR (t := .string "BelowWorth" 59) (u := .string "BelowWorthModel" 336) (hs _ (by decide +kernel)) (h0 5 (by decide))), (List.forall_mem_cons.mpr ⟨(h0 6 (by decide)), (List.forall_mem_cons.mpr ⟨(va_eqR (t := .string "BelowWorth" 61) (u := .string "BelowWorthModel" 338) (hs _ (by decide +kernel)) (h0 6 (by decide))), (List.forall_mem_cons.mpr ⟨(h0 7 (by decide)), (List.forall_mem_cons.mpr ⟨(va_eqR (t := .string "BelowWorth" 63) (u := .string "BelowWorthModel" 340) (hs _ (by decide +kernel)) (h0 7 (by decide))), (List.forall_mem_cons.mpr ⟨(h0 8 (by decide)), (List.forall_mem_cons.mpr ⟨(va_eqR (t := .string "BelowWorth" 65) (u := .string "BelowWorthModel" 342) (hs _ (by decide +kernel)) (h0 8 (by decide))), (List.forall_mem_cons.mpr ⟨(h0 9 (by decide)), (List.forall_mem_cons.mpr ⟨(va_eqR (t := .string "BelowWorth" 67) (u := .string "BelowWorthModel" 343) (hs _ (by decide +kernel)) (h0 9 (by decide))), (List.forall_mem_cons.mpr ⟨(h0 10 (by decide)), (List.forall_mem_cons.mpr ⟨(va_eqR (t := .string "BelowWorth" 69) (u := .string "BelowWorthModel" 345) (hs _ (by decide +kernel)) (h0 10 (by decide))), (List.forall_mem_cons.mpr ⟨(h0 11 (by decide)), (List.forall_mem_cons.mpr ⟨(va_eqR (t := .string "BelowWorth" 70) (u := .string "BelowWorthModel" 346) (hs _ (by decide +kernel)) (h0 11 (by decide))), (List.forall_mem_cons.mpr ⟨(h0 12 (by decide)), (List.forall_mem_cons.mpr ⟨(va_eqR (t := .string "BelowWorth" 72) (u := .string "BelowWorthModel" 348) (hs _ (by decide +kernel)) (h0 12 (by decide))), (List.forall_mem_cons.mpr ⟨(h0 13 (by decide)), (List.forall_mem_cons.mpr ⟨(va_eqR (t := .string "BelowWorth" 78) (u := .string "BelowWorthModel" 358) (hs _ (by decide +kernel)) (h0 13 (by decide))), (List.forall_mem_cons.mpr ⟨(h0 14 (by decide)), (List.forall_mem_cons.mpr ⟨(va_eqR (t := .string "BelowWorth" 80) (u := .string "BelowWorthModel" 360) (hs _ (by decide +kernel)) (h0 14 (by decide))), (List.forall_mem_cons.mpr ⟨(h0 15 (by decide)), (List.forall_mem_cons.mpr ⟨(va_eqR (t := .string "BelowWorth" 82) (u := .string "BelowWorthModel" 362) (hs _ (by decide +kernel)) (h0 15 (by decide))), (List.forall_mem_cons.mpr ⟨(h0 16 (by decide)), (List.forall_mem_cons.mpr ⟨(va_eqR (t := .string "BelowWorth" 84) (u := .string "BelowWorthModel" 364) (hs _ (by decide +kernel)) (h0 16 (by decide))), (List.forall_mem_cons.mpr ⟨(h0 17 (by decide)), (List.forall_mem_cons.mpr ⟨(h0 18 (by decide)), (List.forall_mem_cons.mpr ⟨(va_eqR (t := .string "BelowWorth$Text" 87) (u := .string "BelowWorthModel" 366) (hs _ (by decide +kernel)) (h0 18 (by decide))), (List.forall_mem_cons.mpr ⟨(h0 19 (by decide)), (List.forall_mem_cons.mpr ⟨(va_eqR (t := .string "BelowWorth$Text" 89) (u := .string "BelowWorthModel" 356) (hs _ (by decide +kernel)) (h0 19 (by decide))), (List.forall_mem_cons.mpr ⟨(h0 20 (by decide)), (List.forall_mem_cons.mpr ⟨(va_eqR (t := .string "BelowWorth$Text" 94) (u := .string "BelowWorthModel" 350) (hs _ (by decide +kernel)) (h0 20 (by decide))), (List.forall_mem_cons.mpr ⟨(h0 21 (by decide)), (List.forall_mem_cons.mpr ⟨(va_eqR (t := .string "BelowWorth$Text" 96) (u := .string "BelowWorthModel" 352) (hs _ (by decide +kernel)) (h0 21 (by decide))), (List.forall_mem_cons.mpr ⟨(h0 22 (by decide)), (List.forall_mem_cons.mpr ⟨(va_eqR (t := .string "BelowWorth$Text" 98) (u := .string "BelowWorthModel" 354) (hs _ (by decide +kernel)) (h0 22 (by decide))), (List.forall_mem_cons.mpr ⟨(h0 23 (by decide)), (List.forall_mem_cons.mpr ⟨(va_eqR (t := .string "BelowWorth$Text" 138) (u := .string "BelowWorthModel" 452) (hs _ (by decide +kernel)) (h0 23 (by decide))), (List.forall_mem_cons.mpr ⟨(h0 24 (by decide)), (List.forall_mem_cons.mpr ⟨(va_eqR (t := .string "BelowWorth$Text" 151) (u := .string "BelowWorthModel" 441) (hs _ (by decide +kernel)) (h0 24 (by decide))), (List.forall_mem_cons.mpr ⟨(h0 25 (by decide)), (List.forall_mem_cons.mpr ⟨(va_eqR (t := .string "BelowWorth$Text" 161) (u := .string "BelowWorthModel" 439) (hs _ (by decide +kernel)) (h0 25 (by decide))), (List.forall_mem_cons.mpr ⟨(h0 26 (by decide)), (List.forall_mem_cons.mpr ⟨(va_eqR (t := .string "BelowWorth$Text" 163) (u := .string "BelowWorthModel" 427) (hs _ (by decide +kernel)) (h0 26 (by decide))), (fun _ h => absurd h List.not_mem_nil)⟩)⟩)⟩)⟩)⟩)⟩)⟩)⟩)⟩)⟩)⟩)⟩)⟩)⟩)⟩)⟩)⟩)⟩)⟩)⟩)⟩)⟩)⟩)⟩)⟩)⟩)⟩)⟩)⟩)⟩)⟩)⟩)⟩)⟩)⟩)⟩)⟩)⟩)⟩)⟩)⟩)⟩)⟩)⟩)⟩)⟩)⟩)⟩)⟩)⟩)⟩)⟩)⟩)
