/-! the abstract machine and the real one: statics, constants, texts, Object.<init>, arraycopy -/
section MI
variable {p : Program} {l : Launch} {e : Env} {R : Room} {s : State} {m : MethodId} {args : Array Value} {below : List Frame} {meth : Method} {c : Code} {H : Heap} {locs : List Loc} {cells slots : Nat} {Q : State → Prop}
variable {cc : ByteArray} {pc : Nat} {ls : Array Slot} {E : EV} {A : Nat → Prop} {ad ad0 : Pn → Nat} {h : HS} {K j n idx cN : Nat} {rest : List Value} {v : V} {t : Nat}
theorem Wd.S (hW : Wd E A ad0 s H locs ad h) : va_S A s.heap H locs := by
  obtain ⟨ws, tys, pos, cid, hK, hP, hD, hS, hr, hlow⟩ := hW
  exact hS
theorem Wd.low (hW : Wd E A ad0 s H locs ad h) : ∀ p : Pn, p.1 < 1048576 → ad p = ad0 p := by
  obtain ⟨ws, tys, pos, cid, hK, hP, hD, hS, hr, hlow⟩ := hW
  exact hlow
theorem Wd.in {q : Pn} (hW : Wd E A ad0 s H locs ad h) (hp : inK h q) (i : Nat) : okP h (gR h q.1 q.2 i) := by
  obtain ⟨ws, tys, pos, cid, hK, hP, hD, hS, hr, hlow⟩ := hW
  exact hr.2.2.2 q hp i
theorem stN_low (hlow : ∀ p : Pn, p.1 < 1048576 → ad p = ad0 p) : ∀ q ∈ stN, cv E ad q.2.2.2 = cv E ad0 q.2.2.2 := by
  intro q hq
  simp only [stN, List.mem_cons, List.not_mem_nil, or_false] at hq
  rcases hq with e | e | e | e | e <;> subst e
  · rfl
  · rfl
  · rfl
  · rfl
  · exact cvP_ad (Or.inr (hlow _ (by decide)))
theorem stN_ok : ∀ q ∈ stN, okV h q.2.2.2 := by
  intro q hq
  simp only [stN, List.mem_cons, List.not_mem_nil, or_false] at hq
  rcases hq with e | e | e | e | e <;> subst e
  · exact Or.inr (Or.inl ⟨rfl, by decide⟩)
  · exact Or.inr (Or.inl ⟨rfl, by decide⟩)
  · exact Or.inr (Or.inl ⟨rfl, by decide⟩)
  · trivial
  · exact Or.inr (Or.inr (Or.inr (Or.inr (Or.inr (Or.inl rfl)))))
theorem w_stat (hx : p.tables.exec = Jvm.exec) (hb : c.code = cc) (hts : ∀ w ∈ lw_all, w.before args s = true) (hnf : NestF s) (hown : s.vm.findClass (cnm cN) = some m.cls) (hst : StaC E A ad0 s) (hs : StP cN idx v) (hW : Wd E A ad0 s H locs ad h) (hdg : decode cc pc = .ok (.getstatic idx, 3))
    (kk : W p l e R s m args below meth c H locs cells slots Q (F0 m (pc + 3) ls (cv E ad v :: rest))) : W p l e R s m args below meth c H locs cells slots Q (F0 m pc ls rest) := by
  obtain ⟨C, n, d, hm, hl⟩ := hs
  have hZ := hst _ hm
  have e1 : cv E ad v = cv E ad0 v := stN_low hW.low _ hm
  rw [e1] at kk
  rcases hl with hl | ⟨host, hl⟩
  · exact va_gets hx hb hZ hW.S hown (hts _ hl) (fun x h => h) hdg kk
  · exact va_getsN hx hb hZ hW.S hown ((hnf _ _ _ _ _ _ hl).use rfl) (fun x h => h) hdg kk
theorem w_ldcwS (hx : p.tables.exec = Jvm.exec) (hb : c.code = cc) {own tx : String} {index q : Nat} (hown : s.vm.findClass own = some m.cls) (hZ : vk_R own index tx q s) (hdg : decode cc pc = .ok (.ldc_w index, 3))
    (kk : W p l e R s m args below meth c H locs cells slots Q (F0 m (pc + 3) ls (.ref q :: rest))) : W p l e R s m args below meth c H locs cells slots Q (F0 m pc ls rest) := by
  intro T hT X
  obtain ⟨t, a1, b1⟩ := kk T hT X
  obtain ⟨k, cf, i, q', hk, hcf, hcp, -, hres, hev⟩ := Cond.stringRef_spec hown hZ.1
  cases hZ.2.symm.trans hev
  obtain ⟨k', hk', he⟩ := X.warmed.alike.2.2 _ _ hk
  have hres' : k'.resolved[index]? = some (some (.string q)) := by
    rcases X.warmed.entry hk hk' index with z | ⟨z, -⟩
    · exact z.trans hres
    · rw [hres] at z; cases z
  have hdg' : decode c.code pc = .ok (.ldc_w index, 3) := by rw [hb]; exact hdg
  refine ⟨t, ?_, b1⟩
  jvm_step X.here [hx, hdg', ldc_w.wp_string (e := e) (s := T) (f := F0 m pc ls rest) X.here.top hk' (by rw [he]; exact hcf) hcp hres']
  exact a1
theorem w_ldc (hx : p.tables.exec = Jvm.exec) (hb : c.code = cc) (hts : ∀ w ∈ lw_all, w.before args s = true) (hown : s.vm.findClass (cnm cN) = some m.cls) (hst : StrC A ad0 s) (hs : LdcP cN idx v) (hW : Wd E A ad0 s H locs ad h) {ig : Instr} {len : Nat} (hdg : decode cc pc = .ok (ig, len)) (hig : (ig = .ldc idx ∧ len = 2 ∧ ∀ x, v ≠ vL x) ∨ (ig = .ldc_w idx ∧ len = 3 ∧ ∀ x, v ≠ vL x) ∨ (ig = .ldc2_w idx ∧ len = 3 ∧ ∃ x, v = vL x))
    (kk : W p l e R s m args below meth c H locs cells slots Q (F0 m (pc + len) ls (cv E ad v :: rest))) : W p l e R s m args below meth c H locs cells slots Q (F0 m pc ls rest) := by
  have strs : ∀ jj, jj < 27 → cv E ad (vR (8, jj)) = .ref (ad0 (8, jj)) := by
    intro jj hj
    show cvP E ad (8, jj) = _
    unfold cvP
    rw [if_neg (by show ¬ (8 : Nat) = 0; decide), if_neg (by show ¬ (8 : Nat) = 7; decide), hW.low _ (by show (8 : Nat) < 1048576; decide)]
  rcases hs with ⟨x, rfl, hl⟩ | ⟨x, rfl, hl⟩ | ⟨jj, hj, rfl, hl⟩
  · rcases hig with ⟨rfl, rfl, -⟩ | ⟨rfl, rfl, -⟩ | ⟨rfl, rfl, y, hy⟩
    · exact W.ldc hx hb hown (hts _ hl) rfl hdg kk
    · exact lv_ldcw hx hb hown (hts _ hl) hdg kk
    · cases hy
  · rcases hig with ⟨rfl, rfl, hn⟩ | ⟨rfl, rfl, hn⟩ | ⟨rfl, rfl, y, hy⟩
    · exact absurd rfl (hn x)
    · exact absurd rfl (hn x)
    · exact W.ldc2 hx hb hown (hts _ hl) rfl hdg kk
  · rw [strs jj hj] at kk
    have hR := (hst jj hj).2.2.2.2 _ _ hl
    rcases hig with ⟨rfl, rfl, -⟩ | ⟨rfl, rfl, -⟩ | ⟨rfl, rfl, y, hy⟩
    · exact va_ldcS hx hb hown hR hdg kk
    · exact w_ldcwS hx hb hown hR hdg kk
    · cases hy
theorem w_strf (hx : p.tables.exec = Jvm.exec) (hb : c.code = cc) (hts : ∀ w ∈ lw_all, w.before args s = true) (hown : s.vm.findClass (cnm cN) = some m.cls) (hst : StrC A ad0 s) (hf : FldP cN idx K n t) (ht : t = 3 ∨ t = 4) (hj : j < 27) (hW : Wd E A ad0 s H locs ad h) (hdg : decode cc pc = .ok (.getfield idx, 3))
    (kk : W p l e R s m args below meth c H locs cells slots Q (F0 m (pc + 3) ls (cv E ad (if t = 3 then vR (9, j) else vI (nI 0)) :: rest))) : W p l e R s m args below meth c H locs cells slots Q (F0 m pc ls (.ref (ad (8, j)) :: rest)) := by
  obtain ⟨s1, s2, -⟩ := hst j hj
  rw [hW.low (8, j) (by show (8 : Nat) < 1048576; decide)]
  rcases hf with ⟨h3, hk, hl⟩ | ⟨h4, hk, hl⟩ | ⟨C, T, N, hci, hkN, htk, n3, n4, hlk⟩
  · rw [if_pos h3] at kk
    have e1 : cv E ad (vR (9, j)) = .ref (ad0 (9, j)) := by
      show cvP E ad (9, j) = _
      unfold cvP
      rw [if_neg (by show ¬ (9 : Nat) = 0; decide), if_neg (by show ¬ (9 : Nat) = 7; decide), hW.low _ (by show (9 : Nat) < 1048576; decide)]
    rw [e1] at kk
    exact vk_getf hx hb s1 hW.S hown (hts _ hl) (fun x h => h) hdg kk
  · rw [if_neg (by omega)] at kk
    exact vk_getf hx hb s2 hW.S hown (hts _ hl) (fun x h => h) hdg kk
  · rcases ht with e | e
    · exact absurd e n3
    · exact absurd e n4
theorem w_copy {K2 j2 : Nat} (hx : p.tables.exec = Jvm.exec) (hb : c.code = cc) (hml : c.maxLocals = ls.size) (hts : ∀ w ∈ lw_all, w.before args s = true) (hown : s.vm.findClass (cnm cN) = some m.cls) (hl : Cond.methodLink (cnm cN) idx ⟨"java/lang/System", "arraycopy", "(Ljava/lang/Object;ILjava/lang/Object;II)V"⟩ ∈ lw_all)
    (hW : Wd E A ad0 s H locs ad h) (hp : inK h (K, j)) (hq : inK h (K2, j2)) (h1 : K % 16 = 1) (h2 : K2 % 16 = 1) (hne : ((K, j) : Pn) ≠ (K2, j2)) {a b n : Int32} (ha : 0 ≤ a) (hb0 : 0 ≤ b) (hn : 0 ≤ n) (g1 : a.toNatClampNeg + n.toNatClampNeg ≤ klen K) (g2 : b.toNatClampNeg + n.toNatClampNeg ≤ klen K2)
    (hfr : 1 ≤ R.frames) (hlo : (rest.map fun v => v.category).sum + 18 ≤ R.locals) (hdg : decode cc pc = .ok (.invokestatic idx, 3))
    (kk : ∀ H1 locs1, Wd E A ad0 s H1 locs1 ad (cpI h K j a.toNatClampNeg K2 j2 b.toNatClampNeg n.toNatClampNeg) → W p l e R s m args below meth c H1 locs1 cells slots Q (F0 m (pc + 3) ls rest)) :
    W p l e R s m args below meth c H locs cells slots Q (F0 m pc ls (.int n :: .int b :: .ref (ad (K2, j2)) :: .int a :: .ref (ad (K, j)) :: rest)) := by
  obtain ⟨ws, tys, pos, cid, hK, hP, hD, hS, hr, hlow⟩ := hW
  have nl : ∀ x : Int32, 0 ≤ x → ¬ x < 0 := fun x h => by rw [Int32.not_lt]; exact h
  have he : ws[pos (K, j)]? = some (ad (K, j), ent E ad cid h K j) := hr.1 (K, j) hp
  rw [ent_I (by omega) (by omega) (by omega)] at he
  have he2 : ws[pos (K2, j2)]? = some (ad (K2, j2), ent E ad cid h K2 j2) := hr.1 (K2, j2) hq
  rw [ent_I (by omega) (by omega) (by omega)] at he2
  obtain ⟨t0, ht⟩ := List.mem_iff_getElem?.mp (hr.2.2.1 (K, j) hp (by show ¬ K % 16 = 6; omega))
  have ht : tys[t0]? = some (cid (K, j), arrTy K) := ht
  obtain ⟨t1, ht1⟩ := List.mem_iff_getElem?.mp (hr.2.2.1 (K2, j2) hq (by show ¬ K2 % 16 = 6; omega))
  have ht1 : tys[t1]? = some (cid (K2, j2), arrTy K2) := ht1
  rw [arrTy_I h1] at ht
  rw [arrTy_I h2] at ht1
  refine va_copyi (index := idx) hx hb hml hown (hts _ hl) (hts _ q1322) (hts _ q1321) (hts _ q134) hK hP hD hS (pos (K, j)) (pos (K2, j2)) t0 t1 he he2 ht ht1 rfl (nl a ha) (nl b hb0) (nl n hn) g1 g2 (fun i _ => rfl) hfr (by show _ + (5 + 2 + 11) ≤ _; exact hlo) hdg ?_
  intro H1 locs1 hP1 hD1 hS1
  have en : ent E ad cid (cpI h K j a.toNatClampNeg K2 j2 b.toNatClampNeg n.toNatClampNeg) K2 j2 = .inl (cid (K2, j2), klen K2, .inl (va_cpy (fun i => gI h K j i) (fun i => gI h K2 j2 i) a.toNatClampNeg b.toNatClampNeg n.toNatClampNeg)) := by
    rw [ent_I (by omega) (by omega) (by omega)]
    have e : (fun i => gI (cpI h K j a.toNatClampNeg K2 j2 b.toNatClampNeg n.toNatClampNeg) K2 j2 i) = va_cpy (fun i => gI h K j i) (fun i => gI h K2 j2 i) a.toNatClampNeg b.toNatClampNeg n.toNatClampNeg := by
      funext i
      simp [gI, cpI, va_cpy]
    rw [e]
  rw [← en] at hP1 hD1
  refine kk H1 locs1 ⟨_, tys, pos, cid, hK, hP1, hD1, hS1, rel_set hr hq (fun _ => rfl) (fun q _ hne => ent_congr (fun i' => ?_) (fun _ => rfl) (fun _ => rfl)) (fun q hq i' => hr.2.2.2 q hq i'), hlow⟩
  show (if q.1 = K2 ∧ q.2 = j2 ∧ _ ∧ _ then _ else _) = _
  exact if_neg (fun z => hne (Prod.ext z.1 z.2.1))
end MI
