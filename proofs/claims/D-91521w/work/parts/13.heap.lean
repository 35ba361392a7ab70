/-! the abstract machine and the real one: what reads and writes the memory -/
theorem mem_of_lookup {α β : Type} [BEq α] [LawfulBEq α] {k : α} {v : β} : ∀ {l : List (α × β)}, l.lookup k = some v → (k, v) ∈ l
  | [], h => by simp at h
  | (a, b) :: l, h => by
    rw [List.lookup_cons] at h
    split at h
    · next e =>
      have e := eq_of_beq e
      cases h
      subst e
      exact List.mem_cons_self
    · exact List.mem_cons_of_mem _ (mem_of_lookup h)
def NestF (s : State) : Prop := ∀ a i b n d ho, Cond.fieldLinkNest a i b n d ho ∈ lw_tbl → va_Nw (.fieldLinkNest a i b n d ho) s
def NestM (s : State) : Prop := ∀ a i x ho, Cond.methodLinkNest a i x ho ∈ lw_tbl → va_Nw (.methodLinkNest a i x ho) s
def OverA (s : State) : Prop := ∀ C, Cond.arrayOver (.object C) ∈ lw_tbl → va_AO C s
def DeclD (s : State) : Prop := ∀ x, Cond.declares x ∈ lw_tbl → va_Nw (.declares x) s
def CastC (s : State) : Prop := ∀ C T, Cond.castable C T ∈ lw_tbl → va_Nw (.castable C T) s
def StrC (A : Nat → Prop) (ad0 : Pn → Nat) (s : State) : Prop := ∀ j, j < 27 →
  va_OF "java/lang/String" "value" "[B" (.ref (ad0 (9, j))) (ad0 (8, j)) A s s.heap ∧ va_OF "java/lang/String" "coder" "B" (.int 0) (ad0 (8, j)) A s s.heap ∧
  va_T .byte (ad0 (9, j)) (slen j) (fun i => .int (sch j i)) A s s.heap ∧ va_O "java/lang/String" (ad0 (8, j)) A s s.heap ∧ ∀ own idx, Cond.stringRef own idx (strN j) ∈ lw_tbl → vk_R own idx (strN j) (ad0 (8, j)) s
def StaC (E : EV) (A : Nat → Prop) (ad0 : Pn → Nat) (s : State) : Prop := ∀ q ∈ stN, va_Z q.1 q.2.1 q.2.2.1 (cv E ad0 q.2.2.2) A s s.heap
section HP
variable {p : Program} {l : Launch} {e : Env} {R : Room} {s : State} {m : MethodId} {args : Array Value} {below : List Frame} {meth : Method} {c : Code} {H : Heap} {locs : List Loc} {cells slots : Nat} {Q : State → Prop}
variable {cc : ByteArray} {pc : Nat} {ls : Array Slot} {E : EV} {A : Nat → Prop} {ad ad0 : Pn → Nat} {h h' : HS} {K j k t idx M cN : Nat} {rest : List Value}
theorem w_get (hx : p.tables.exec = Jvm.exec) (hb : c.code = cc) (hts : ∀ w ∈ lw_all, w.before args s = true) (hnf : NestF s) (hown : s.vm.findClass (cnm cN) = some m.cls) (hf : FldP cN idx K k t) (h34 : ¬ t = 3 ∧ ¬ t = 4) (hW : Wd E A ad0 s H locs ad h) (hp : inK h (K, j))
    (hdg : decode cc pc = .ok (.getfield idx, 3)) (kk : W p l e R s m args below meth c H locs cells slots Q (F0 m (pc + 3) ls (cv E ad (rd h K j k t) :: rest))) : W p l e R s m args below meth c H locs cells slots Q (F0 m pc ls (.ref (ad (K, j)) :: rest)) := by
  obtain ⟨ws, tys, pos, cid, hK, hP, hD, hS, hr, hlow⟩ := hW
  rcases hf with ⟨h3, -⟩ | ⟨h4, -⟩ | ⟨C, T, N, hci, hkN, htk, -, -, hlk⟩
  · exact absurd h3 h34.1
  · exact absurd h4 h34.2
  · obtain ⟨c1, -, -, c4, c5, -⟩ := cinf_ok _ hci
    have he : ws[pos (K, j)]? = some (ad (K, j), ent E ad cid h K j) := hr.1 (K, j) hp
    rw [ent_obj c5] at he
    have hv : ((List.range (ksz K)).map (fun i => fv E ad h K j i))[k]? = some (cv E ad (rd h K j k t)) := by
      have c4 : N = ksz K := c4
      rw [List.getElem?_map, List.getElem?_range (by rw [← c4]; exact hkN)]
      simp [fv, htk]
    rcases hlk with hl | ⟨host, hl, hne⟩
    · exact va_get hx hb hts c1 hown hK hP (pos (K, j)) he (cl0_at hci) k hkN (hts _ hl) (fun x h => h) hv hdg kk
    · exact va_getN hx hb hts c1 hown hK hP (pos (K, j)) he (cl0_at hci) k hkN ((hnf _ _ _ _ _ _ hl).use rfl) (fun x h => h) hv hdg kk
theorem tyc_fits {ty : FieldType} {v : V} (hE : opqOK E) (hwr : wr h K j k (tyc ty) v = some h') : narrow ty (cv E ad v) = cv E ad v ∧ fits ty (cv E ad v) = true := by
  rcases v with x | x | q | b
  · cases ty <;> simp [wr, tyc] at hwr
    · exact ⟨rfl, rfl⟩
    · rcases hwr.1 with e | e <;> subst e <;> exact ⟨rfl, rfl⟩
  · cases ty <;> simp [wr, tyc] at hwr
    exact ⟨rfl, rfl⟩
  · cases ty <;> simp [wr, tyc] at hwr
    · rcases cvP_ref (ad := ad) (p := q) hE with e | ⟨a, e⟩ <;> (show narrow _ (cvP E ad q) = cvP E ad q ∧ fits _ (cvP E ad q) = true; rw [e]; exact ⟨rfl, rfl⟩)
    · rcases cvP_ref (ad := ad) (p := q) hE with e | ⟨a, e⟩ <;> (show narrow _ (cvP E ad q) = cvP E ad q ∧ fits _ (cvP E ad q) = true; rw [e]; exact ⟨rfl, rfl⟩)
  · simp [wr] at hwr
theorem wr_rel {v : V} (hwr : wr h K j k t v = some h') (hk : kty K k = t) (h6 : K % 16 = 6) (hp : inK h (K, j)) (hv : okV h v) {ws : va_W} {tys : List (ClassId × FieldType)} {pos : Pn → Nat} {cid : Pn → ClassId} (hr : rel E ws tys pos ad cid h) :
    ent E ad cid h' K j = .inr (ciOf K, ((List.range (ksz K)).map (fun i => fv E ad h K j i)).set k (cv E ad v)) ∧ rel E (ws.set (pos (K, j)) (ad (K, j), ent E ad cid h' K j)) tys pos ad cid h' := by
  unfold wr at hwr
  rcases v with x | x | q | b
  · simp only at hwr
    split at hwr
    · next e => cases hwr; exact ⟨ent_sI_obj h6 (Or.inl (hk.trans e)), rel_sI hr hp x⟩
    · split at hwr
      · next e =>
        split at hwr
        · cases hwr; exact ⟨ent_sI_obj h6 (Or.inr (hk.trans e)), rel_sI hr hp x⟩
        · cases hwr
      · cases hwr
  · simp only at hwr
    split at hwr
    · next e => cases hwr; exact ⟨ent_sL_obj h6 (hk.trans e), rel_sL hr hp x⟩
    · cases hwr
  · simp only at hwr
    split at hwr
    · next e => cases hwr; exact ⟨ent_sR_obj h6 (hk.trans e), rel_sR hr hp hv⟩
    · cases hwr
  · cases hwr
theorem wr_cn {v : V} (hwr : wr h K j k t v = some h') : (∀ K', cn h' K' = cn h K') ∧ nc h' = nc h ∧ ns h' = ns h := by
  unfold wr at hwr
  rcases v with x | x | q | b
  · simp only at hwr
    split at hwr
    · cases hwr; exact ⟨fun _ => rfl, rfl, rfl⟩
    · split at hwr
      · split at hwr
        · cases hwr; exact ⟨fun _ => rfl, rfl, rfl⟩
        · cases hwr
      · cases hwr
  · simp only at hwr
    split at hwr
    · cases hwr; exact ⟨fun _ => rfl, rfl, rfl⟩
    · cases hwr
  · simp only at hwr
    split at hwr
    · cases hwr; exact ⟨fun _ => rfl, rfl, rfl⟩
    · cases hwr
  · cases hwr
theorem w_put {v : V} (hx : p.tables.exec = Jvm.exec) (hb : c.code = cc) (hts : ∀ w ∈ lw_all, w.before args s = true) (hnf : NestF s) (hown : s.vm.findClass (cnm (mown M)) = some m.cls) (hnm : ∀ K, initT.lookup M = some K → meth.name = (mY M).name) (hf : FldP (mown M) idx K k t) (hok : putok M K k = true) (hE : opqOK E)
    (hW : Wd E A ad0 s H locs ad h) (hp : inK h (K, j)) (hwr : wr h K j k t v = some h') (hv : okV h v) (hdg : decode cc pc = .ok (.putfield idx, 3))
    (kk : ∀ H1 locs1, Wd E A ad0 s H1 locs1 ad h' → W p l e R s m args below meth c H1 locs1 cells slots Q (F0 m (pc + 3) ls rest)) : W p l e R s m args below meth c H locs cells slots Q (F0 m pc ls (cv E ad v :: .ref (ad (K, j)) :: rest)) := by
  obtain ⟨ws, tys, pos, cid, hK, hP, hD, hS, hr, hlow⟩ := hW
  rcases hf with ⟨h3, -⟩ | ⟨h4, -⟩ | ⟨C, T, N, hci, hkN, htk, -, -, hlk⟩
  · subst h3; rcases v with x | x | q | b <;> simp [wr] at hwr
  · subst h4; rcases v with x | x | q | b <;> simp [wr] at hwr
  · obtain ⟨c1, ⟨ty, c2, c2t⟩, c3, c4, c5, -, -, c8, -⟩ := cinf_ok _ hci
    have he : ws[pos (K, j)]? = some (ad (K, j), ent E ad cid h K j) := hr.1 (K, j) hp
    rw [ent_obj c5] at he
    obtain ⟨en, hr'⟩ := wr_rel (E := E) (ad := ad) (cid := cid) hwr htk.symm c5 hp hv hr
    have c4 : N = ksz K := c4
    have hfit : narrow (ty k) (cv E ad v) = cv E ad v ∧ fits (ty k) (cv E ad v) = true := tyc_fits (h := h) (K := K) (j := j) (k := k) (h' := h') hE (by rw [show tyc (ty k) = t from (c2t k hkN).trans htk.symm]; exact hwr)
    have hl : k < ((List.range (ksz K)).map (fun i => fv E ad h K j i)).length := by simp; rw [← c4]; exact hkN
    have fin : ∀ H1 locs1, va_P (E.1, E.2.1) cl0 (ws.set (pos (K, j)) (ad (K, j), .inr (ciOf K, ((List.range (ksz K)).map (fun i => fv E ad h K j i)).set k (cv E ad v)))) H1 → va_D A (ws.set (pos (K, j)) (ad (K, j), .inr (ciOf K, ((List.range (ksz K)).map (fun i => fv E ad h K j i)).set k (cv E ad v)))) → va_S A s.heap H1 locs1 → W p l e R s m args below meth c H1 locs1 cells slots Q (F0 m (pc + 3) ls rest) := by
      intro H1 locs1 hP1 hD1 hS1
      rw [← en] at hP1 hD1
      exact kk H1 locs1 ⟨_, tys, pos, cid, hK, hP1, hD1, hS1, hr', hlow⟩
    by_cases hfi : (T k).2.2.2 = true
    · obtain ⟨f1, f2⟩ := c8 k hkN hfi
      unfold putok at hok
      rw [f1] at hok
      simp only [Bool.not_true, Bool.false_or, decide_eq_true_eq] at hok
      have hI : InitP M K := init_ok (M, K) (mem_of_lookup hok)
      obtain ⟨C', T', N', g1, g2, g3⟩ := hI
      obtain ⟨rfl, -, -⟩ := cinf_eq hci g1
      rcases hlk with hl0 | ⟨host, hl0, hne⟩
      · exact va_putF hx hb hts c1 ty c2 c3 hown hK hP hD hS (pos (K, j)) he (cl0_at hci) k hkN (hts _ hl0) (fun x h => h) hfi ((hnm _ hok).trans g3) (f2.trans g2.symm) (c2 k hkN) hfit.1 hfit.2 hl hdg fin
      · exact absurd g2 hne
    · have hfi : (T k).2.2.2 = false := by simpa using hfi
      rcases hlk with hl0 | ⟨host, hl0, hne⟩
      · exact va_put hx hb hts c1 ty c2 c3 hown hK hP hD hS (pos (K, j)) he (cl0_at hci) k hkN (hts _ hl0) (fun x h => h) hfi (c2 k hkN) hfit.1 hfit.2 hl hdg fin
      · exact va_putN hx hb hts c1 ty c2 c3 hown hK hP hD hS (pos (K, j)) he (cl0_at hci) k hkN ((hnf _ _ _ _ _ _ hl0).use rfl) (fun x h => h) hfi (c2 k hkN) hfit.1 hfit.2 hl hdg fin
theorem arr_at (hr : ∃ ws tys pos cid, va_K (E.1, E.2.1) cl0 tys s ∧ va_P (E.1, E.2.1) cl0 ws H ∧ rel E ws tys pos ad cid h) (hp : inK h (K, j)) (h6 : ¬ K % 16 = 6) :
    ∃ (cA : ClassId), H[ad (K, j)]? = some (vp_cell cA (klen K, arrC E ad h K j)) ∧ ArrOfT s cA (arrTy K) := by
  obtain ⟨ws, tys, pos, cid, hK, hP, hr⟩ := hr
  have he : ws[pos (K, j)]? = some (ad (K, j), ent E ad cid h K j) := hr.1 (K, j) hp
  obtain ⟨t0, ht⟩ := List.mem_iff_getElem?.mp (hr.2.2.1 (K, j) hp h6)
  have h1 := hP _ _ he
  unfold ent at h1
  rw [if_neg h6] at h1
  exact ⟨cid (K, j), h1, (hK.2 t0 _ ht).1⟩
theorem arrTy_I (h : K % 16 = 1) : arrTy K = .int := by unfold arrTy; rw [if_pos h]
theorem arrTy_B (h : K % 16 = 2) : arrTy K = .byte := by unfold arrTy; rw [if_neg (by omega), if_pos h]
theorem arrTy_Z (h : K % 16 = 3) : arrTy K = .boolean := by unfold arrTy; rw [if_neg (by omega), if_neg (by omega), if_pos h]
theorem arrTy_J (h : K % 16 = 4) : arrTy K = .long := by unfold arrTy; rw [if_neg (by omega), if_neg (by omega), if_neg (by omega), if_pos h]
theorem arrTy_R : ∀ K ∈ kindsL, K % 16 = 5 → (arrTy K).isReference = true := by
  have h : kindsL.all (fun K => !(decide (K % 16 = 5)) || (arrTy K).isReference) = true := by decide +kernel
  intro K hK h5
  have := List.all_eq_true.mp h K hK
  simpa [h5] using this
theorem w_ald (hx : p.tables.exec = Jvm.exec) (hb : c.code = cc) (hE : opqOK E) (hW : Wd E A ad0 s H locs ad h) (hp : inK h (K, j)) {i : Int32} (hin : ¬ (i < 0 ∨ klen K ≤ i.toNatClampNeg)) {ig : Instr} {v : Value}
    (hk : (K % 16 = 1 ∧ ig = .iaload ∧ v = .int (gI h K j i.toNatClampNeg)) ∨ (K % 16 = 2 ∧ ig = .baload ∧ v = .int (gI h K j i.toNatClampNeg)) ∨ (K % 16 = 3 ∧ ig = .baload ∧ v = .int (gI h K j i.toNatClampNeg)) ∨ (K % 16 = 4 ∧ ig = .laload ∧ v = .long (gL h K j i.toNatClampNeg)) ∨ (K % 16 = 5 ∧ ig = .aaload ∧ v = cvP E ad (gR h K j i.toNatClampNeg)))
    (hdg : decode cc pc = .ok (ig, 1)) (kk : W p l e R s m args below meth c H locs cells slots Q (F0 m (pc + 1) ls (v :: rest))) : W p l e R s m args below meth c H locs cells slots Q (F0 m pc ls (.int i :: .ref (ad (K, j)) :: rest)) := by
  obtain ⟨ws, tys, pos, cid, hK, hP, hD, hS, hr, hlow⟩ := hW
  have hlt : i.toNatClampNeg < klen K := Nat.not_le.mp fun q => hin (Or.inr q)
  obtain ⟨cA, hc, hT⟩ := arr_at ⟨ws, tys, pos, cid, hK, hP, hr⟩ hp (by omega)
  rcases hk with ⟨h1, rfl, rfl⟩ | ⟨h1, rfl, rfl⟩ | ⟨h1, rfl, rfl⟩ | ⟨h1, rfl, rfl⟩ | ⟨h1, rfl, rfl⟩
  · rw [arrTy_I h1] at hT
    have hc : H[ad (K, j)]? = some (arrV cA (klen K) (fun i => .int (gI h K j i))) := by rw [hc]; unfold arrC; rw [if_neg (by omega), if_neg (by omega)]; rfl
    exact W.iald hx hb hc (hT _ _) (fun q => by cases q) (by rw [arrV_size]; exact hin) (arrV_read _ _ hlt) rfl rfl hdg kk
  · rw [arrTy_B h1] at hT
    have hc : H[ad (K, j)]? = some (arrV cA (klen K) (fun i => .int (gI h K j i))) := by rw [hc]; unfold arrC; rw [if_neg (by omega), if_neg (by omega)]; rfl
    exact W.bald hx hb hc (hT _ _) (fun q => by cases q) (by rw [arrV_size]; exact hin) (arrV_read _ _ hlt) rfl rfl hdg kk
  · rw [arrTy_Z h1] at hT
    have hc : H[ad (K, j)]? = some (arrV cA (klen K) (fun i => .int (gI h K j i))) := by rw [hc]; unfold arrC; rw [if_neg (by omega), if_neg (by omega)]; rfl
    exact W.zald hx hb hc (hT _ _) (fun q => by cases q) (by rw [arrV_size]; exact hin) (arrV_read _ _ hlt) rfl rfl hdg kk
  · rw [arrTy_J h1] at hT
    have hc : H[ad (K, j)]? = some (arrV cA (klen K) (fun i => .long (gL h K j i))) := by rw [hc]; unfold arrC; rw [if_pos h1]; rfl
    exact W.lald hx hb hc (hT _ _) (fun q => by cases q) (by rw [arrV_size]; exact hin) (arrV_read _ _ hlt) rfl rfl hdg kk
  · have hc : H[ad (K, j)]? = some (arrV cA (klen K) (fun i => cvP E ad (gR h K j i))) := by
      rw [hc]; unfold arrC; rw [if_neg (by omega), if_pos h1]
      show some (arrV cA (klen K) (fun i => va_rf (pOf E ad (gR h K j i)))) = _
      simp only [rf_pOf hE]
    exact W.aald hx hb hc (hT _ _) (arrTy_R K hp.1 h1) (fun q => by cases q) (by rw [arrV_size]; exact hin) (arrV_read _ _ hlt) rfl rfl hdg kk
theorem w_len (hx : p.tables.exec = Jvm.exec) (hb : c.code = cc) (hW : Wd E A ad0 s H locs ad h) (hp : inK h (K, j)) (h6 : ¬ K % 16 = 6)
    (hdg : decode cc pc = .ok (.arraylength, 1)) (kk : W p l e R s m args below meth c H locs cells slots Q (F0 m (pc + 1) ls (.int (nI (klen K)) :: rest))) : W p l e R s m args below meth c H locs cells slots Q (F0 m pc ls (.ref (ad (K, j)) :: rest)) := by
  obtain ⟨ws, tys, pos, cid, hK, hP, hD, hS, hr, hlow⟩ := hW
  have he : ws[pos (K, j)]? = some (ad (K, j), ent E ad cid h K j) := hr.1 (K, j) hp
  unfold ent at he
  rw [if_neg h6] at he
  obtain ⟨t0, ht⟩ := List.mem_iff_getElem?.mp (hr.2.2.1 (K, j) hp h6)
  exact va_alen hx hb hK hP (pos (K, j)) t0 he ht rfl hdg kk
theorem w_ast (hx : p.tables.exec = Jvm.exec) (hb : c.code = cc) (hW : Wd E A ad0 s H locs ad h) (hp : inK h (K, j)) {i x : Int32} (hin : ¬ (i < 0 ∨ klen K ≤ i.toNatClampNeg)) {ig : Instr}
    (hk : (K % 16 = 1 ∧ ig = .iastore) ∨ (K % 16 = 2 ∧ ig = .bastore ∧ x.toInt8.toInt32 = x) ∨ (K % 16 = 3 ∧ ig = .bastore ∧ (x = 0 ∨ x = 1))) (hdg : decode cc pc = .ok (ig, 1))
    (kk : ∀ H1 locs1, Wd E A ad0 s H1 locs1 ad (sI h K j i.toNatClampNeg x) → W p l e R s m args below meth c H1 locs1 cells slots Q (F0 m (pc + 1) ls rest)) : W p l e R s m args below meth c H locs cells slots Q (F0 m pc ls (.int x :: .int i :: .ref (ad (K, j)) :: rest)) := by
  obtain ⟨ws, tys, pos, cid, hK, hP, hD, hS, hr, hlow⟩ := hW
  have h4 : ¬ K % 16 = 4 := by omega
  have h5 : ¬ K % 16 = 5 := by omega
  have h6 : ¬ K % 16 = 6 := by omega
  have he : ws[pos (K, j)]? = some (ad (K, j), ent E ad cid h K j) := hr.1 (K, j) hp
  rw [ent_I h4 h5 h6] at he
  obtain ⟨t0, ht⟩ := List.mem_iff_getElem?.mp (hr.2.2.1 (K, j) hp h6)
  have ht : tys[t0]? = some (cid (K, j), arrTy K) := ht
  have fin : ∀ H1 locs1, va_P (E.1, E.2.1) cl0 (ws.set (pos (K, j)) (ad (K, j), .inl (cid (K, j), klen K, .inl (upd (fun i => gI h K j i) i.toNatClampNeg x)))) H1 → va_D A (ws.set (pos (K, j)) (ad (K, j), .inl (cid (K, j), klen K, .inl (upd (fun i => gI h K j i) i.toNatClampNeg x)))) → va_S A s.heap H1 locs1 → W p l e R s m args below meth c H1 locs1 cells slots Q (F0 m (pc + 1) ls rest) := by
    intro H1 locs1 hP1 hD1 hS1
    rw [← ent_sI_arr (E := E) (ad := ad) (cid := cid) (h := h) (j := j) h4 h5 h6] at hP1 hD1
    exact kk H1 locs1 ⟨_, tys, pos, cid, hK, hP1, hD1, hS1, rel_sI hr hp x, hlow⟩
  rcases hk with ⟨h1, rfl⟩ | ⟨h1, rfl, hx8⟩ | ⟨h1, rfl, hx1⟩
  · rw [arrTy_I h1] at ht
    exact va_iast hx hb hK hP hD hS (pos (K, j)) t0 he ht hin hdg fin
  · rw [arrTy_B h1] at ht
    refine va_bast hx hb hK hP hD hS (pos (K, j)) t0 he ht hin hdg ?_
    rw [vp_nar_byte, hx8]
    exact fin
  · rw [arrTy_Z h1] at ht
    refine va_zast hx hb hK hP hD hS (pos (K, j)) t0 he ht hin hdg ?_
    have e : vp_nar .boolean x = x := by rcases hx1 with e | e <;> subst e <;> rfl
    rw [e]
    exact fin
theorem w_last (hx : p.tables.exec = Jvm.exec) (hb : c.code = cc) (hW : Wd E A ad0 s H locs ad h) (hp : inK h (K, j)) {i : Int32} {x : Int64} (hin : ¬ (i < 0 ∨ klen K ≤ i.toNatClampNeg)) (h4 : K % 16 = 4) (hdg : decode cc pc = .ok (.lastore, 1))
    (kk : ∀ H1 locs1, Wd E A ad0 s H1 locs1 ad (sL h K j i.toNatClampNeg x) → W p l e R s m args below meth c H1 locs1 cells slots Q (F0 m (pc + 1) ls rest)) : W p l e R s m args below meth c H locs cells slots Q (F0 m pc ls (.long x :: .int i :: .ref (ad (K, j)) :: rest)) := by
  obtain ⟨ws, tys, pos, cid, hK, hP, hD, hS, hr, hlow⟩ := hW
  have he : ws[pos (K, j)]? = some (ad (K, j), ent E ad cid h K j) := hr.1 (K, j) hp
  rw [ent_L h4] at he
  obtain ⟨t0, ht⟩ := List.mem_iff_getElem?.mp (hr.2.2.1 (K, j) hp (by show ¬ K % 16 = 6; omega))
  have ht : tys[t0]? = some (cid (K, j), arrTy K) := ht
  rw [arrTy_J h4] at ht
  refine va_last hx hb hK hP hD hS (pos (K, j)) t0 he ht hin hdg ?_
  intro H1 locs1 hP1 hD1 hS1
  rw [← ent_sL_arr (E := E) (ad := ad) (cid := cid) (h := h) (j := j) h4] at hP1 hD1
  exact kk H1 locs1 ⟨_, tys, pos, cid, hK, hP1, hD1, hS1, rel_sL hr hp x, hlow⟩
/-- what an object is in the real heap -/
theorem recv_at (hW : Wd E A ad0 s H locs ad h) (hp : inK h (K, j)) {C : String} {T : u_T} {N : Nat} (hci : (K, C, T, N) ∈ cinfT) : ∃ cell : Cell, H[ad (K, j)]? = some cell ∧ cell.vm.isStatics = false ∧ s.vm.findClass C = some cell.cls := by
  obtain ⟨ws, tys, pos, cid, hK, hP, hD, hS, hr, hlow⟩ := hW
  have he : ws[pos (K, j)]? = some (ad (K, j), ent E ad cid h K j) := hr.1 (K, j) hp
  rw [ent_obj (cinf_ok _ hci).2.2.2.2.1] at he
  obtain ⟨r, h1, cell, q1, q2, q3, q4⟩ := hP _ _ he
  cases h1.symm.trans (cl0_at hci)
  obtain ⟨-, hfc, -⟩ := hK.1 _ _ (cl0_at hci)
  exact ⟨cell, q1, by rw [q3]; rfl, by rw [q2]; exact hfc⟩
theorem w_aast {q : Pn} (hx : p.tables.exec = Jvm.exec) (hb : c.code = cc) (hE : opqOK E) (hca : CastC s) (hst : StrC A ad0 s) (hW : Wd E A ad0 s H locs ad h) (hp : inK h (K, j)) {i : Int32} (hin : ¬ (i < 0 ∨ klen K ≤ i.toNatClampNeg)) (h5 : K % 16 = 5) (hob : ∃ C, arrTy K = .object C) (hq : q.1 = 0 ∨ elok K q.1 = true) (hqk : okP h q) (hdg : decode cc pc = .ok (.aastore, 1))
    (kk : ∀ H1 locs1, Wd E A ad0 s H1 locs1 ad (sR h K j i.toNatClampNeg q) → W p l e R s m args below meth c H1 locs1 cells slots Q (F0 m (pc + 1) ls rest)) : W p l e R s m args below meth c H locs cells slots Q (F0 m pc ls (cvP E ad q :: .int i :: .ref (ad (K, j)) :: rest)) := by
  have hW0 := hW
  obtain ⟨ws, tys, pos, cid, hK, hP, hD, hS, hr, hlow⟩ := hW
  have he : ws[pos (K, j)]? = some (ad (K, j), ent E ad cid h K j) := hr.1 (K, j) hp
  rw [ent_R h5] at he
  obtain ⟨t0, ht⟩ := List.mem_iff_getElem?.mp (hr.2.2.1 (K, j) hp (by show ¬ K % 16 = 6; omega))
  have ht : tys[t0]? = some (cid (K, j), arrTy K) := ht
  obtain ⟨Ec, hob⟩ := hob
  have fin : ∀ r, pOf E ad q = r → ∀ H1 locs1, va_P (E.1, E.2.1) cl0 (ws.set (pos (K, j)) (ad (K, j), .inl (cid (K, j), klen K, .inr (.inr (.inr (.inr (va_up (fun i => pOf E ad (gR h K j i)) i.toNatClampNeg r))))))) H1 → va_D A (ws.set (pos (K, j)) (ad (K, j), .inl (cid (K, j), klen K, .inr (.inr (.inr (.inr (va_up (fun i => pOf E ad (gR h K j i)) i.toNatClampNeg r))))))) → va_S A s.heap H1 locs1 → W p l e R s m args below meth c H1 locs1 cells slots Q (F0 m (pc + 1) ls rest) := by
    intro r hr0 H1 locs1 hP1 hD1 hS1
    rw [← hr0, ← ent_sR_arr (E := E) (ad := ad) (cid := cid) (h := h) (j := j) h5] at hP1 hD1
    exact kk H1 locs1 ⟨_, tys, pos, cid, hK, hP1, hD1, hS1, rel_sR hr hp hqk, hlow⟩
  by_cases h0 : q.1 = 0
  · have e1 : cvP E ad q = .null := by unfold cvP; rw [if_pos h0]
    rw [e1]
    rw [hob] at ht
    exact va_astqN hx hb hK hP hD hS (pos (K, j)) t0 he ht hin hdg (fin none (by unfold pOf; rw [e1]))
  · have hel := hq.resolve_left h0
    unfold elok at hel
    have hmem : (K, q.1) ∈ elemT := by simpa using hel
    obtain ⟨Ec', C, ⟨g1, -⟩, g3, g4⟩ := el_ok _ hmem
    have g1 : arrTy K = .object Ec' := g1
    rw [g1] at ht
    have h7 : ¬ q.1 = 7 := by
      rcases g3 with ⟨T, N, g⟩ | ⟨g, -⟩
      · have := (cinf_ok _ g).2.2.2.2.2.2.1
        have : 1048576 ≤ q.1 := this
        omega
      · have g : q.1 = 8 := g
        omega
    have e1 : cvP E ad q = .ref (ad q) := by unfold cvP; rw [if_neg h0, if_neg h7]
    rw [e1]
    refine vb_astq (C := C) hx hb hK hP hD hS (pos (K, j)) t0 he ht ?_ ?_ hin hdg (fin (some (ad q)) (by unfold pOf; rw [e1]))
    · rcases g3 with ⟨T, N, g⟩ | ⟨g, gC⟩
      · exact recv_at (K := q.1) (j := q.2) hW0 (hqk.in (cinf_ok _ g).2.2.2.2.2.2.1) g
      · have g : q.1 = 8 := g
        subst gC
        have hj : q.2 < 27 := by
          rcases hqk with e | ⟨e, -⟩ | ⟨e, z⟩ | ⟨e, -⟩ | e | e | e
          · omega
          · omega
          · exact z
          · omega
          · rw [e] at g; simp at g
          · rw [e] at g; simp at g
          · have := (kinds_ge _ e.1).1; omega
        rw [hlow q (by omega), show q = (8, q.2) from by rw [← g]]
        exact va_Orecv (hst q.2 hj).2.2.2.1 hS
    · rcases g4 with rfl | g4
      · exact vb_asgS
      · exact vb_asgC (hca _ _ g4)
end HP
