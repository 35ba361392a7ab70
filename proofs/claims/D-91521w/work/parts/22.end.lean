/-! the abstract machine and the real one: ends and calls -/
def Hx (c : Code) (M : Nat) : Prop := c.exceptionTable.toList.map (fun h => (h.startPc, h.endPc, h.handlerPc, h.catchType)) = if M = 19 then [(32, 69, 72, 36)] else []
def RetP (M : Nat) : Prop := (mR M = none ∧ mret M = 0) ∨ (mR M = some .int ∧ mret M = 1) ∨ (mR M = some .boolean ∧ mret M = 2) ∨ (mR M = some .byte ∧ mret M = 3) ∨ (mR M = some .char ∧ mret M = 4) ∨ (mR M = some .long ∧ mret M = 5) ∨ (mret M = 6 ∧ ((mR M).getD .int).isReference = true)
def Rx (meth : Method) (c : Code) (M : Nat) : Prop := meth.sig.returnType = mR M ∧ meth.locks = false ∧ Hx c M ∧ RetP M
theorem tabs_len : tabs.length = 262 := by decide +kernel
theorem DecAll_range : DecAll = List.range 262 := by decide +kernel
theorem ins_dec {M pc len : Nat} {i : Instr} (h : ins M pc = some (i, len)) : decode (mC M) pc = .ok (i, len) ∧ lenOK i len = true := by
  unfold ins at h
  have hM : M < 262 := by
    rcases Nat.lt_or_ge M 262 with z | z
    · exact z
    · rw [List.getD_eq_getElem?_getD, List.getElem?_eq_none (by rw [tabs_len]; exact z)] at h
      cases h
  have hd : DecP M := dec_all M (by rw [DecAll_range]; exact List.mem_range.mpr hM)
  have := List.all_eq_true.mp hd _ (mem_of_lookup h)
  unfold decQ at this
  simp only [Bool.and_eq_true, decide_eq_true_eq] at this
  exact this
section ENDS
variable {p : Program} {l : Launch} {e : Env} {R : Room} {s : State} {m : MethodId} {args : Array Value} {below : List Frame} {meth : Method} {c : Code} {H : Heap} {locs : List Loc} {cells slots : Nat}
variable {pc : Nat} {ls : Array Slot} {E : EV} {A : Nat → Prop} {ad ad0 : Pn → Nat} {Ls : Nat} {xs : Nat → Int32} {h : HS} {M len : Nat} {i : Instr} {L S : List V}
theorem W_co {Q Q' : State → Prop} {g : JFrame} (h : ∀ t, Q t → Q' t) (w : W p l e R s m args below meth c H locs cells slots Q g) : W p l e R s m args below meth c H locs cells slots Q' g := fun T hT X => by
  obtain ⟨t, a, b⟩ := w T hT X
  exact ⟨t, a, h t b⟩
/-- how a run of a method has ended, in both machines -/
def QE (E : EV) (A : Nat → Prop) (ad0 : Pn → Nat) (Ls : Nat) (xs : Nat → Int32) (R : Room) (s : State) (below : List Frame) (ad : Pn → Nat) (h : HS) (r : (List V ⊕ Pn) × HS) (t : State) : Prop :=
  ∃ o Lc k n ad', t.status = .running ∧ Ended t below o ∧ s.WarmedH t.vm ∧ s.sameButNew ({ t with vm := s.vm } : State) Lc k n ∧ Wd E A ad0 s t.heap Lc ad' r.2 ∧ Bd R k n r.2 ∧ (∀ x, okP h x → ad' x = ad x) ∧ (∀ K, cn h K ≤ cn r.2 K) ∧ (scL r.2 = Ls ∧ ∀ i, scX r.2 i = xs i) ∧
    (match r.1 with
    | .inl vs => okS r.2 vs ∧ ∃ v : Option Value, o = .returned v ∧ v.toList = vs.map (cv E ad')
    | .inr q => okP r.2 q ∧ q.1 = 2097174 ∧ o = .threw (ad' q))
theorem QE.mono {r : (List V ⊕ Pn) × HS} {ad1 : Pn → Nat} {h1 : HS} {t : State} (hq : QE E A ad0 Ls xs R s below ad1 h1 r t) (ha : ∀ x, okP h x → ad1 x = ad x) (hc : ∀ K, cn h K ≤ cn h1 K) : QE E A ad0 Ls xs R s below ad h r t := by
  obtain ⟨o, Lc, k, n, ad', a1, a2, a3, a4, a5, a6, a7, a8, a9, a10⟩ := hq
  exact ⟨o, Lc, k, n, ad', a1, a2, a3, a4, a5, a6, fun x hx => (a7 x (hx.mono hc)).trans (ha x hx), fun K => Nat.le_trans (hc K) (a8 K), a9, a10⟩
theorem Wd.ends {Lc : List Loc} (hW : Wd E A ad0 s H locs ad h) (hL : ∀ q ∈ Lc, A q.base) : Wd E A ad0 s H Lc ad h := by
  obtain ⟨ws, tys, pos, cid, hK, hP, hD, hS, hr, hlow⟩ := hW
  exact ⟨ws, tys, pos, cid, hK, hP, hD, ⟨hS.1, hS.2.1, hL⟩, hr, hlow⟩
theorem QE_of {o : Outcome} {vs : List V} {v : Option Value} {t : State} (hs : St E A ad0 Ls xs R s H locs cells slots ad L S h ls) (ho : o = .returned v) (hv : v.toList = vs.map (cv E ad)) (hok : okS h vs) (q : MQ below (fun _ _ o' t' => o' = .returned v ∧ t'.heap = H) args s cells slots A t) : QE E A ad0 Ls xs R s below ad h (.inl vs, h) t := by
  obtain ⟨o', hrun, hend, ⟨ho', hh⟩, Lc, ⟨-, hW, hsb⟩, hL⟩ := q
  obtain ⟨h1, h2, -, -, -, h6, h7⟩ := hs
  exact ⟨o', Lc, cells, slots, ad, hrun, hend, hW, hsb, by rw [hh]; exact h1.ends hL, h2, fun _ _ => rfl, fun _ => Nat.le_refl _, ⟨h6, h7⟩, hok, v, ho', hv⟩
theorem nar_char (x : Int32) : x.toUInt32.toUInt16.toUInt32 = x.toUInt32 % 65536 := by
  apply UInt32.toNat.inj
  simp
theorem hout_of (r3 : Hx c M) (hh : hdl M pc = none) : ∀ x ∈ c.exceptionTable.toList, covers x pc = false := by
  intro x hx2
  have h2 : (x.startPc, x.endPc, x.handlerPc, x.catchType) ∈ c.exceptionTable.toList.map (fun h => (h.startPc, h.endPc, h.handlerPc, h.catchType)) := List.mem_map.mpr ⟨x, hx2, rfl⟩
  rw [r3] at h2
  unfold hdl at hh
  split at h2
  · rename_i h19
    simp only [List.mem_cons, List.not_mem_nil, or_false, Prod.mk.injEq] at h2
    have : ¬ (32 ≤ pc ∧ pc < 69) := by
      intro z
      rw [if_pos ⟨h19, z⟩] at hh
      cases hh
    unfold covers
    rw [h2.1, h2.2.1, Bool.and_eq_false_iff]
    by_cases z : 32 ≤ pc
    · right; exact decide_eq_false (fun y => this ⟨z, y⟩)
    · left; exact decide_eq_false z
  · cases h2
set_option maxHeartbeats 1000000 in
theorem w_end {r : (List V ⊕ Pn) × HS} (hM : Mx p s m args meth c M) (hR : Rx meth c M) (hE : opqOK E) (hd : decode (mC M) pc = .ok (i, len)) (hl : lenOK i len = true) (he : endI M pc i S h = some r) (hs : St E A ad0 Ls xs R s H locs cells slots ad L S h ls) :
    W p l e R s m args below meth c H locs cells slots (QE E A ad0 Ls xs R s below ad h r) (F0 m pc ls (S.map (cv E ad))) := by
  obtain ⟨hx, hb, hown, hts, hnm, hml⟩ := hM
  obtain ⟨r1, hlk, r3, r4⟩ := hR
  have hA : ∀ q ∈ locs, A q.base := hs.1.S.2.2
  unfold endI at he
  split at he
  · split at he
    · rename_i hm
      cases he
      obtain rfl : 1 = len := of_decide_eq_true hl
      have hn : mR M = none := by
        rcases r4 with z | z | z | z | z | z | z
        · exact z.1
        all_goals omega
      exact W_co (fun t q => QE_of hs rfl rfl (fun v hv => absurd hv List.not_mem_nil) q) (W.vret hx hb (r1.trans hn) (Qc := fun _ _ o' t' => o' = .returned none ∧ t'.heap = H) (free := A) (fun t ht _ => ⟨rfl, ht⟩) hA hd hlk)
    · cases he
  · rename_i x
    split at he
    · rename_i hm
      cases he
      obtain rfl : 1 = len := of_decide_eq_true hl
      have hn : ∃ ty, mR M = some ty ∧ narrow ty (.int x) = .int x := by
        rcases r4 with z | z | z | z | z | z | z
        · omega
        · exact ⟨_, z.1, rfl⟩
        · refine ⟨_, z.1, ?_⟩
          rcases hm with y | ⟨-, y⟩ | y | y
          · omega
          · rcases y with y | y <;> subst y <;> rfl
          · omega
          · omega
        · refine ⟨_, z.1, ?_⟩
          rcases hm with y | y | ⟨-, y⟩ | y
          · omega
          · omega
          · show Value.int x.toInt8.toInt32 = _
            rw [y]
          · omega
        · refine ⟨_, z.1, ?_⟩
          rcases hm with y | y | y | ⟨-, y⟩
          · omega
          · omega
          · omega
          · show Value.int x.toUInt32.toUInt16.toUInt32.toInt32 = _
            rw [nar_char, y]
        · omega
        · omega
      obtain ⟨ty, hty, hnar⟩ := hn
      exact W_co (fun t q => QE_of hs rfl rfl (okS.cons (v := vI x) trivial (fun v hv => absurd hv List.not_mem_nil)) q) (W.zret hx hb (r1.trans hty) hnar (Qc := fun _ _ o' t' => o' = .returned (some (.int x)) ∧ t'.heap = H) (free := A) (fun t ht _ => ⟨rfl, ht⟩) hA hd hlk)
    · cases he
  · rename_i x
    split at he
    · rename_i hm
      cases he
      obtain rfl : 1 = len := of_decide_eq_true hl
      have hn : mR M = some .long := by
        rcases r4 with z | z | z | z | z | z | z
        · omega
        · omega
        · omega
        · omega
        · omega
        · exact z.1
        · omega
      exact W_co (fun t q => QE_of hs rfl rfl (okS.cons (v := vL x) trivial (fun v hv => absurd hv List.not_mem_nil)) q) (W.lret hx hb (r1.trans hn) (Qc := fun _ _ o' t' => o' = .returned (some (.long x)) ∧ t'.heap = H) (free := A) (fun t ht _ => ⟨rfl, ht⟩) hA hd hlk)
    · cases he
  · rename_i q
    split at he
    · rename_i hm
      cases he
      obtain rfl : 1 = len := of_decide_eq_true hl
      have hn : ∃ rt, mR M = some rt ∧ ((∃ n, rt = .object n) ∨ ∃ t, rt = .array t) := by
        rcases r4 with z | z | z | z | z | z | z
        · omega
        · omega
        · omega
        · omega
        · omega
        · omega
        · cases hh : mR M with
          | none => rw [hh] at z; have := z.2; simp [FieldType.isReference] at this
          | some rt =>
            rw [hh] at z
            have z2 : rt.isReference = true := z.2
            refine ⟨rt, rfl, ?_⟩
            cases rt <;> simp [FieldType.isReference] at z2
            · exact Or.inl ⟨_, rfl⟩
            · exact Or.inr ⟨_, rfl⟩
      obtain ⟨rt, hrt, hk⟩ := hn
      exact W_co (fun t q' => QE_of hs rfl rfl hs.2.2.2.2.1 q') (W.aret hx hb (r1.trans hrt) hk (cvP_ref (ad := ad) (p := q) hE) (Qc := fun _ _ o' t' => o' = .returned (some (cvP E ad q)) ∧ t'.heap = H) (free := A) (fun t ht _ => ⟨rfl, ht⟩) hA hd hlk)
    · cases he
  · rename_i q S0
    split at he
    · rename_i hm
      cases he
      obtain rfl : 1 = len := of_decide_eq_true hl
      have hout : ∀ x ∈ c.exceptionTable.toList, covers x pc = false := hout_of r3 hm.2
      have hq : okP h q := hs.2.2.2.2.1.head
      have e1 : cv E ad (.inr (.inr (.inl q))) = .ref (ad q) := ref_at (by rw [hm.1]; decide)
      rw [List.map_cons, e1]
      intro T hT X
      obtain ⟨st, hrun, hend, hWm, hsb⟩ := X.athrowLeaves hx (g := F0 m pc ls (.ref (ad q) :: S0.map (cv E ad))) rfl rfl rfl hout rfl (by rw [hb]; exact hd) hlk
      obtain ⟨h1, h2, -, -, -, h6, h7⟩ := hs
      refine ⟨_, st, .threw (ad q), locs, cells, slots, ad, hrun, hend, hWm, hsb, ?_, h2, fun _ _ => rfl, fun _ => Nat.le_refl _, ⟨h6, h7⟩, hq, hm.1, rfl⟩
      have : (T.setFrames (.throwing (ad q) :: below)).heap = H := hT
      rw [this]
      exact h1
    · cases he
  · cases he
end ENDS
