/-! from the law on the abstract machine to the claim's walk -/
set_option maxRecDepth 1000000
def R_law : String := "BelowWorthLaw"
def lw_P (b : Addr) (xs : List Int32) (args : Array Value) (s : State) : Prop := args = #[.ref b] ∧ s.IntsAt b xs ∧ xs.length ≤ 512 ∧ (Jvm.Cond.and given_1 narrow_1).before args s = true
def lw_Q (_ : Array Value) (s : State) (o : Outcome) (t : State) : Prop := o = .returned (some (.int 1)) ∧ Framed s o t [] 601024 7293034
def lw_Z (below : List Frame) (a : Array Value) (s : State) : State → Prop := fun t => ∃ o, t.status = .running ∧ Ended t below o ∧ lw_Q a s o t
def lw_At (p : Program) (s : State) (m : MethodId) (meth : Method) (c : Code) (b L : Nat) (xs : Nat → Int32) : Prop :=
  p.tables.exec = Jvm.exec ∧ c.code = code ∧ meth.sig.returnType = ret ∧ c.maxLocals = 4 ∧ s.vm.findClass R_law = some m.cls ∧ (∀ w ∈ lw_tbl, w.before #[Value.ref b] s = true) ∧ va_X b L xs s s.heap ∧ b < s.heap.size ∧ meth.locks = false ∧ (Jvm.Cond.and given_1 narrow_1).before #[Value.ref b] s = true
/-- the empty memory, with the script -/
def h00 (L : Nat) (xs : Nat → Int32) : HS := (fun _ => 0, fun _ _ _ => 0, fun _ _ _ => 0, fun _ _ _ => (0, 0), 0, 0, L, xs)
theorem over_arr {args : Array Value} {s : State} {t : FieldType} (h : (Cond.arrayOver (.array t)).before args s = true) : OutC s t := by
  simp only [Cond.before, Cond.holds, Cond.value, beq_iff_eq] at h
  cases hc : s.vm.findClass (FieldType.array t).toString with
  | none => simp [hc] at h
  | some comp =>
    simp only [hc, Option.bind_some, Option.bind_eq_some_iff, Option.map_eq_some_iff] at h
    obtain ⟨c, hi, k, hk, hb⟩ := h
    obtain ⟨hlt, hp, -⟩ := Array.findIdx?_eq_some_iff_getElem.mp hi
    have hkk : s.vm.classes[c] = k := (Array.getElem?_eq_some_iff.mp hk).2
    rw [hkk] at hp
    cases hkind : k.kind with
    | array component ty =>
      rw [hkind] at hb hp
      simp at hb hp
      exact ⟨comp, c, k, hc, hk, by rw [hkind, hp, hb.1], hb.2⟩
    | _ => rw [hkind] at hb; simp at hb
theorem law_facts : mC 261 = code ∧ mloc 261 = 4 ∧ cnm (mown 261) = R_law ∧ mR 261 = ret ∧ initT.lookup 261 = none ∧ mret 261 = 2 ∧ ret = some .boolean := ⟨rfl, by decide +kernel, by decide +kernel, by decide +kernel, by decide +kernel, by decide +kernel, by decide +kernel⟩
theorem code_tab {p : Program} {s : State} : True := trivial
section WS
set_option maxHeartbeats 4000000 in
theorem start_cx {s : State} {b L : Nat} {xs : Nat → Int32} (hts : ∀ w ∈ lw_tbl, w.before #[Value.ref b] s = true) (hX : va_X b L xs s s.heap) (hbl : b < s.heap.size) (hgv : (Jvm.Cond.and given_1 narrow_1).before #[Value.ref b] s = true) :
    ∃ (E : EV) (ad0 : Pn → Nat), ad0 (10, 0) = b ∧ Cx E (fun q => s.heap.size ≤ q) ad0 L xs s ∧ va_K (E.1, E.2.1) cl0 [] s := by
  have hall : ∀ w ∈ lw_all, w.before #[Value.ref b] s = true := fun w h => hts w (lw_all_tbl h)
  have hs := flat_of_before _ hgv
  have hA : ∀ a : Nat, a < s.heap.size → ¬ s.heap.size ≤ a := fun a h => Nat.not_le.mpr h
  -- the classes
  have hcl : ∀ i : Nat, ∃ q : ClassId × (Nat → Nat), ∀ r, cl0[i]? = some r → u_Kn s r.1 r.2.1 r.2.2 q.1 q.2 := by
    intro i
    cases hi : cl0[i]? with
    | none => exact ⟨(0, fun _ => 0), fun r hr => by cases hr⟩
    | some r =>
      have hm : r ∈ cl0 := List.mem_of_getElem? hi
      unfold cl0 at hm
      obtain ⟨q, hq, rfl⟩ := List.mem_map.mp hm
      have hc := cinf_ok q hq
      obtain ⟨cC, iS, hk⟩ := u_known (ws := lw_all) hall hc.1 (hall _ hc.2.2.2.2.2.2.2.2.1)
      exact ⟨(cC, iS), fun r hr => by cases hr; exact hk⟩
  obtain ⟨fc, hfc⟩ := Classical.axiomOfChoice hcl
  -- the strings
  have hst : ∀ j : Nat, ∃ q : Nat × Nat, j < 27 → (sTm j).eval #[Value.ref b] s none [] s = some (.ref q.1) ∧ va_O "java/lang/String" q.1 (fun q => s.heap.size ≤ q) s s.heap ∧ va_OF "java/lang/String" "coder" "B" (.int 0) q.1 (fun q => s.heap.size ≤ q) s s.heap ∧ va_OF "java/lang/String" "value" "[B" (.ref q.2) q.1 (fun q => s.heap.size ≤ q) s s.heap ∧ va_T .byte q.2 (slen j) (fun i => .int (sch j i)) (fun q => s.heap.size ≤ q) s s.heap := by
    intro j
    by_cases hj : j < 27
    · have g : ∀ w ∈ sCo j, w.before #[Value.ref b] s = true := fun w hw => hs w (sco j hj w hw)
      have g1 := g _ List.mem_cons_self
      have g2 := g _ (List.mem_cons_of_mem _ List.mem_cons_self)
      have g3 := g _ (List.mem_cons_of_mem _ (List.mem_cons_of_mem _ List.mem_cons_self))
      have g4 := g _ (List.mem_cons_of_mem _ (List.mem_cons_of_mem _ (List.mem_cons_of_mem _ List.mem_cons_self)))
      have g5 : ∀ i, i < slen j → (Cond.eq (.elem (sFv j) (.int (Int32.ofNat i))) (.int (sch j i))).before #[Value.ref b] s = true := fun i hi => g _ (List.mem_cons_of_mem _ (List.mem_cons_of_mem _ (List.mem_cons_of_mem _ (List.mem_cons_of_mem _ (List.mem_map.mpr ⟨i, List.mem_range.mpr hi, rfl⟩)))))
      obtain ⟨a, c, cA, kA, q1, q2, q3, q4, q5, q6, -⟩ := Cond.exactly_spec (args := #[Value.ref b]) (first := s) (o := none) (s := s) (idx := []) g1
      have hsl : slen j < 2 ^ 31 := by
        have : ∀ j : Fin 27, slen j < 2 ^ 31 := by decide +kernel
        exact this ⟨j, hj⟩
      obtain ⟨t, ht, hT⟩ := va_Tof (f := fun i => .int (sch j i)) (A := fun q => s.heap.size ≤ q) hsl g3 (va_eqt g4) (fun i hi => va_eqt (g5 i hi)) hA
      exact ⟨(a, t), fun _ => ⟨q1, ⟨cA, q3, q5, by rw [q6]; exact q2, hA a (Array.getElem?_eq_some_iff.mp q3).1⟩, vk_OFof q1 (va_eqt g2) hA, vk_OFof q1 ht hA, hT⟩⟩
    · exact ⟨(0, 0), fun h => absurd h hj⟩
  obtain ⟨fs, hfs⟩ := Classical.axiomOfChoice hst
  -- the opaque statics
  have op : ∀ (C n d : String), Cond.laysStatic C n d ∈ lw_tbl → Cond.initialized C ∈ lw_all → (Cond.isRef (.static C n d)).before #[Value.ref b] s = true → ∃ v, (v = .null ∨ ∃ a, v = .ref a) ∧ va_Z C n d v (fun q => s.heap.size ≤ q) s s.heap := by
    intro C n d h1 h2 h3
    rcases va_Zqof (A := fun q => s.heap.size ≤ q) (hts _ h1) (hall _ h2) h3 hA with z | ⟨t, z⟩
    · exact ⟨_, Or.inl rfl, z⟩
    · exact ⟨_, Or.inr ⟨t, rfl⟩, z⟩
  obtain ⟨v0, o0, z0⟩ := op _ _ _ q180 q107 (hs _ (by decide +kernel))
  obtain ⟨v1, o1, z1⟩ := op _ _ _ q182 q107 (hs _ (by decide +kernel))
  obtain ⟨v2, o2, z2⟩ := op _ _ _ q869 q123 (hs _ (by decide +kernel))
  have z3 := va_Zof (A := fun q => s.heap.size ≤ q) (hts _ q853) (hall _ q121) (va_eqi (z := 1) (hs _ (by decide +kernel))) hA
  -- the static array
  obtain ⟨tM, htM, hTM⟩ := va_Tof (tm := .static "BelowWorth" "MOST" "[I") (ty := .int) (N := 4) (f := fun i => .int (mostC.getD i 0)) (A := fun q => s.heap.size ≤ q) (args := #[Value.ref b]) (s := s) (by decide) (hs _ (by decide +kernel)) (va_eqt (z := 4) (hs _ (by decide +kernel))) (fun j hj => by
    match j, hj with
    | 0, _ => exact va_eqt (z := 9) (hs _ (by decide +kernel))
    | 1, _ => exact va_eqt (z := 24) (hs _ (by decide +kernel))
    | 2, _ => exact va_eqt (z := 999) (hs _ (by decide +kernel))
    | 3, _ => exact va_eqt (z := 999) (hs _ (by decide +kernel))
    | j + 4, hj => exact absurd hj (by omega)) hA
  have z4 := va_Zref (A := fun q => s.heap.size ≤ q) (hts _ q1059) (hall _ q106) htM hA
  let E : EV := (fun i => (fc i).1, fun i => (fc i).2, fun j => if j = 0 then v0 else if j = 1 then v1 else v2)
  let ad0 : Pn → Nat := fun p => if p.1 = 8 then (fs p.2).1 else if p.1 = 9 then (fs p.2).2 else if p.1 = 10 then b else tM
  have hE : opqOK E := by
    intro j
    show (if j = 0 then v0 else if j = 1 then v1 else v2) = .null ∨ ∃ a, (if j = 0 then v0 else if j = 1 then v1 else v2) = .ref a
    split
    · exact o0
    · split
      · exact o1
      · exact o2
  have hev := ref_ev (aK := fun j => (fs j).1) hs (fun j hj => (hfs j hj).1)
  refine ⟨E, ad0, rfl, ⟨?_, ?_, ?_, ?_, ?_, ?_, ?_, ?_, hTM, hX, ⟨hbl, hA b hbl⟩, hE, fun q hq => hq⟩, ⟨fun c q hq => hfc c q hq, fun k q hq => by cases hq⟩⟩
  · intro a i b0 n d ho hm
    exact va_Nw.of rfl (hts _ hm)
  · intro a i x ho hm
    exact va_Nw.of rfl (hts _ hm)
  · intro C hm
    exact va_AO.of (hts _ hm)
  · intro x hm
    exact va_Nw.of rfl (hts _ hm)
  · intro C T hm
    exact va_Nw.of rfl (hts _ hm)
  · intro j hj
    obtain ⟨a1, a2, a3, a4, a5⟩ := hfs j hj
    refine ⟨a4, a3, a5, a2, fun own idx hm => ?_⟩
    have h1 := List.all_eq_true.mp ref_all _ hm
    simp only at h1
    obtain ⟨q, hq, hqq⟩ := List.any_eq_true.mp h1
    simp only [Bool.and_eq_true, decide_eq_true_eq] at hqq
    obtain ⟨⟨e1, e2⟩, e3⟩ := hqq
    have hq27 : q.2.2 < 27 := by
      have : ∀ q ∈ refT, q.2.2 < 27 := by decide +kernel
      exact this q hq
    have e4 : q.2.2 = j := by
      have := strN_inj ⟨q.2.2, hq27⟩ ⟨j, hj⟩ e3
      exact congrArg Fin.val this
    have h2 := hev q hq
    unfold SEv at h2
    rw [e1, e2, e4] at h2
    exact vk_R.of (A := #[Value.ref b]) (hts _ hm) h2
  · intro q hq
    simp only [stN, List.mem_cons, List.not_mem_nil, or_false] at hq
    rcases hq with e | e | e | e | e <;> subst e
    · exact z0
    · exact z1
    · exact z2
    · exact z3
    · exact z4
  · intro ty hty
    simp only [mulTys, List.mem_cons, List.not_mem_nil, or_false] at hty
    rcases hty with e | e | e <;> subst e
    · obtain ⟨c, k, comp, a1, a2, a3⟩ := Cond.arrayClass_spec (hall _ q226)
      exact ⟨over_arr (hts _ q146), c, a1, ⟨k, comp, a2, a3⟩, a1⟩
    · obtain ⟨c, k, comp, a1, a2, a3⟩ := Cond.arrayClass_spec (hall _ q325)
      exact ⟨over_arr (hts _ q295), c, a1, ⟨k, comp, a2, a3⟩, a1⟩
    · obtain ⟨comp, c, k, a1, a2, a3, a4, a5⟩ := Cond.arrayOver_spec (hts _ q408)
      exact ⟨over_arr (hts _ q407), c, a5, ⟨k, comp, a3, a4⟩, k, comp, a3, a4, a1, a5⟩
set_option maxHeartbeats 1000000 in
theorem whole_open (hlaw : ∀ (L : Nat) (xs : Nat → Int32), L ≤ 512 → X 1000 261 0 [vR (10, 0), vU, vU, vU] [] (h00 L xs) (fun r => r.1 = .inl [vI 1])) {p : Program} {e : Env} {s : State} {m : MethodId} {below : List Frame} {meth : Method} {c : Code} (l : Launch) {b L : Nat} {xs : Nat → Int32} (hL : L ≤ 512) (C0 : lw_At p s m meth c b L xs) (hex : c.exceptionTable.toList = []) :
    W p l e room_1 s m #[Value.ref b] below meth c s.heap [] 0 0 (lw_Z below #[Value.ref b] s) (entryFrame m ([Value.ref b] : List Value).toArray 4) := by
  obtain ⟨hx, hb, hr, hml, hown, hts, hX, hbl, hlk, hgv⟩ := C0
  obtain ⟨E, ad0, hb0, hC, hK⟩ := start_cx hts hX hbl hgv
  obtain ⟨f1, f2, f3, f4, f5, f6, f7⟩ := law_facts
  have hE : opqOK E := hC.2.2.2.2.2.2.2.2.2.2.2.1
  obtain ⟨n, r, he, hq⟩ := hlaw L xs hL
  have hall : ∀ w ∈ lw_all, w.before #[Value.ref b] s = true := fun w h => hts w (lw_all_tbl h)
  have hM : Mx p s m #[Value.ref b] meth c 261 := ⟨hx, by rw [f1]; exact hb, by rw [f3]; exact hown, hall, (fun K hK => by rw [f5] at hK; cases hK), by rw [f2]; exact hml⟩
  have hR : Rx meth c 261 := ⟨by rw [f4]; exact hr, hlk, by unfold Hx; rw [hex]; rfl, Or.inr (Or.inr (Or.inl ⟨f4.trans f7, f6⟩))⟩
  obtain ⟨ls, hef, hLS⟩ := ent_LSx (ad := ad0) hE (as := [vR (10, 0)]) (M := 261) m rfl (by decide +kernel)
  have ecv : cv E ad0 (vR (10, 0)) = .ref b := by
    show cvP E ad0 (10, 0) = _
    rw [cvP_at (by decide) (by decide), hb0]
  have eL : entL 261 [vR (10, 0)] = [vR (10, 0), vU, vU, vU] := by decide +kernel
  rw [List.map_cons, ecv, f2] at hef
  rw [eL] at hLS
  have noin : ∀ q, ¬ inK (h00 L xs) q := fun q hq => absurd hq.2 (Nat.not_lt_zero _)
  have hW : Wd E (fun q => s.heap.size ≤ q) ad0 s s.heap [] ad0 (h00 L xs) := ⟨[], [], fun _ => 0, fun _ => 0, hK, (fun k q hq => by cases hq), ⟨(fun i j p q hp => by cases hp), (fun k q hq => by cases hq)⟩, va_S.rf, ⟨fun q hq => absurd hq (noin q), fun q q' hq => absurd hq (noin q), fun q hq => absurd hq (noin q), fun q hq => absurd hq (noin q)⟩, fun _ _ => rfl⟩
  have hS : St E (fun q => s.heap.size ≤ q) ad0 L xs room_1 s s.heap [] 0 0 ad0 [vR (10, 0), vU, vU, vU] [] (h00 L xs) ls := by
    have n1 : nc (h00 L xs) = 0 := rfl
    have n2 : ns (h00 L xs) = 0 := rfl
    have n3 : NCL = room_1.cells := rfl
    have n4 : NSL = room_1.slots := rfl
    have bd : Bd room_1 0 0 (h00 L xs) := by
      unfold Bd
      rw [n1, n2, n3, n4]
      omega
    refine ⟨hW, bd, hLS, ?_, fun v hv => absurd hv List.not_mem_nil, rfl, fun _ => rfl⟩
    intro v hv
    simp only [List.mem_cons, List.not_mem_nil, or_false] at hv
    rcases hv with e | e | e | e <;> subst e
    · exact Or.inr (Or.inr (Or.inr (Or.inr (Or.inl rfl))))
    · trivial
    · trivial
    · trivial
  have hw := snd_main n 1000 261 0 _ [] (h00 L xs) r he p l e room_1 s m #[Value.ref b] below meth c s.heap [] 0 0 ad0 ls hM hR hC (by decide) (by decide) (by rw [f2]; rfl) hS
  have hef' : entryFrame m ([Value.ref b] : List Value).toArray 4 = F0 m 0 ls [] := hef
  rw [hef']
  refine W_co ?_ hw
  rintro t ⟨o, Lc, k, nn, ad', hrun, hend, hWt, hsb, hWd, hBd, -, -, -, hm⟩
  obtain ⟨r1, h'⟩ := r
  have hq : r1 = .inl [vI 1] := hq
  subst hq
  obtain ⟨-, v, rfl, hv⟩ := hm
  have hv1 : v = some (.int 1) := by
    cases v with
    | none => cases hv
    | some w =>
      have : [w] = [Value.int 1] := hv
      rw [(List.cons.inj this).1]
  subst hv1
  refine ⟨_, hrun, hend, rfl, ⟨_, rfl⟩, hWt, ?_⟩
  have hLc : ∀ q ∈ Lc, s.heap.size ≤ q.base := hWd.S.2.2
  refine hsb.weaken (fun y hy hlt => absurd hlt (Nat.not_lt.mpr (hLc y hy))) ?_ ?_
  · have h1 := hBd.1
    have h2 : NCL = 601024 := rfl
    have h3 : room_1.cells = 601024 := rfl
    rw [h3] at h1
    omega
  · have h1 := hBd.2
    have h2 : NSL = 7293034 := rfl
    have h3 : room_1.slots = 7293034 := rfl
    rw [h3] at h1
    omega
end WS
