/-! the abstract machine and the real one: what makes cells -/
theorem cn_al (h : HS) (K n K' : Nat) : cn (al h K n) K' = if K' = K then cn h K + 1 else cn h K' := rfl
theorem gI_al (h : HS) (K n K' j' i : Nat) : gI (al h K n) K' j' i = if K' = K ∧ j' = cn h K then 0 else gI h K' j' i := rfl
theorem gL_al (h : HS) (K n K' j' i : Nat) : gL (al h K n) K' j' i = if K' = K ∧ j' = cn h K then 0 else gL h K' j' i := rfl
theorem gR_al (h : HS) (K n K' j' i : Nat) : gR (al h K n) K' j' i = if K' = K ∧ j' = cn h K then (0, 0) else gR h K' j' i := rfl
def adN (ad : Pn → Nat) (p : Pn) (q : Nat) : Pn → Nat := fun x => if x = p then q else ad x
def cidN (cid : Pn → ClassId) (p : Pn) (q : ClassId) : Pn → ClassId := fun x => if x = p then q else cid x
theorem adN_ne {ad : Pn → Nat} {p x : Pn} {q : Nat} (h : x ≠ p) : adN ad p q x = ad x := if_neg h
theorem adN_eq {ad : Pn → Nat} {p : Pn} {q : Nat} : adN ad p q p = q := if_pos rfl
theorem okP_ne {h : HS} {K : Nat} {p : Pn} (hK : 1048576 ≤ K) (hp : okP h p) : p ≠ (K, cn h K) := by
  intro e
  have hk : 1048576 ≤ p.1 := by rw [e]; exact hK
  have := (hp.in hk).2
  rw [e] at this
  exact Nat.lt_irrefl _ this
theorem cn_al_le (h : HS) (K n K' : Nat) : cn h K' ≤ cn (al h K n) K' := by
  rw [cn_al]
  split
  · next e => rw [e]; omega
  · exact Nat.le_refl _
theorem cv_new {E : EV} {ad : Pn → Nat} {h : HS} {K q : Nat} {v : V} (hK : 1048576 ≤ K) (hv : okV h v) : cv E (adN ad (K, cn h K) q) v = cv E ad v := by
  rcases v with x | x | p | b
  · rfl
  · rfl
  · exact cvP_ad (Or.inr (adN_ne (okP_ne hK hv)))
  · rfl
theorem map_new {E : EV} {ad : Pn → Nat} {h : HS} {K q : Nat} {S : List V} (hK : 1048576 ≤ K) (hS : ∀ v ∈ S, okV h v) : S.map (cv E (adN ad (K, cn h K) q)) = S.map (cv E ad) :=
  List.map_congr_left fun v hv => cv_new hK (hS v hv)
/-- the value of a new field -/
def dfl (t : Nat) : Value := if t = 1 then .long 0 else if t = 2 then .null else .int 0
theorem fv_new {E : EV} {ad : Pn → Nat} {h : HS} {K n i : Nat} : fv E ad (al h K n) K (cn h K) i = dfl (kty K i) := by
  unfold fv rd dfl
  simp only [gI_al, gL_al, gR_al, and_self, if_true]
  split
  · rfl
  · split
    · rfl
    · rfl
theorem ent_new_obj {E : EV} {ad : Pn → Nat} {cid : Pn → ClassId} {h : HS} {K n : Nat} (h6 : K % 16 = 6) : ent E ad cid (al h K n) K (cn h K) = .inr (ciOf K, (List.range (ksz K)).map (fun i => dfl (kty K i))) := by
  rw [ent_obj h6]
  simp only [fv_new]
theorem ent_new_I {E : EV} {ad : Pn → Nat} {cid : Pn → ClassId} {h : HS} {K n : Nat} (h4 : ¬ K % 16 = 4) (h5 : ¬ K % 16 = 5) (h6 : ¬ K % 16 = 6) : ent E ad cid (al h K n) K (cn h K) = .inl (cid (K, cn h K), klen K, .inl (fun _ => 0)) := by
  rw [ent_I h4 h5 h6]
  simp only [gI_al, and_self, if_true]
theorem ent_new_L {E : EV} {ad : Pn → Nat} {cid : Pn → ClassId} {h : HS} {K n : Nat} (h4 : K % 16 = 4) : ent E ad cid (al h K n) K (cn h K) = .inl (cid (K, cn h K), klen K, .inr (.inl (fun _ => 0))) := by
  rw [ent_L h4]
  simp only [gL_al, and_self, if_true]
theorem ent_new_R {E : EV} {ad : Pn → Nat} {cid : Pn → ClassId} {h : HS} {K n : Nat} (h5 : K % 16 = 5) : ent E ad cid (al h K n) K (cn h K) = .inl (cid (K, cn h K), klen K, .inr (.inr (.inr (.inr (fun _ => none))))) := by
  rw [ent_R h5]
  simp only [gR_al, and_self, if_true]
  rfl
theorem rel_al {E : EV} {ws : va_W} {tys tys' : List (ClassId × FieldType)} {pos ad : Pn → Nat} {cid : Pn → ClassId} {h : HS} {K n q : Nat} {cA : ClassId} (hr : rel E ws tys pos ad cid h) (hK : K ∈ kindsL) (ht : ∀ x ∈ tys, x ∈ tys') (hA : ¬ K % 16 = 6 → (cA, arrTy K) ∈ tys') :
    rel E (ws ++ [(q, ent E (adN ad (K, cn h K) q) (cidN cid (K, cn h K) cA) (al h K n) K (cn h K))]) tys' (adN pos (K, cn h K) ws.length) (adN ad (K, cn h K) q) (cidN cid (K, cn h K) cA) (al h K n) := by
  obtain ⟨r1, r2, r3, r4⟩ := hr
  have hK1 := (kinds_ge K hK).1
  have split : ∀ p, inK (al h K n) p → p = (K, cn h K) ∨ (p ≠ (K, cn h K) ∧ inK h p) := by
    intro p hp
    by_cases e : p = (K, cn h K)
    · exact Or.inl e
    · refine Or.inr ⟨e, hp.1, ?_⟩
      have h2 := hp.2
      rw [cn_al] at h2
      split at h2
      · next e1 =>
        rcases Nat.lt_or_ge p.2 (cn h K) with h3 | h3
        · rw [e1]; exact h3
        · exact absurd (by rw [← e1, show cn h p.1 = p.2 by rw [e1]; omega]) e
      · exact h2
  have posl : ∀ p, inK h p → pos p < ws.length := fun p hp => (List.getElem?_eq_some_iff.mp (r1 p hp)).1
  have old : ∀ p, inK h p → p ≠ (K, cn h K) := fun p hp => okP_ne hK1 (Or.inr (Or.inr (Or.inr (Or.inr (Or.inr (Or.inr hp))))))
  have oldg : ∀ p, p ≠ (K, cn h K) → ¬ (p.1 = K ∧ p.2 = cn h K) := fun p hp z => hp (Prod.ext z.1 z.2)
  refine ⟨fun p hp => ?_, fun a b ha hb hab => ?_, fun p hp h6 => ?_, fun p hp i => ?_⟩
  · rcases split p hp with e | ⟨e, hp'⟩
    · subst e
      rw [adN_eq, adN_eq, List.getElem?_append_right (Nat.le_refl _), Nat.sub_self]
      rfl
    · rw [adN_ne e, adN_ne e, List.getElem?_append_left (posl p hp'), r1 p hp']
      have e1 : ent E ad cid h p.1 p.2 = ent E ad cid (al h K n) p.1 p.2 := (ent_congr (fun i => by rw [gI_al, if_neg (oldg p e)]) (fun i => by rw [gL_al, if_neg (oldg p e)]) (fun i => by rw [gR_al, if_neg (oldg p e)])).symm
      have e2 : ent E (adN ad (K, cn h K) q) (cidN cid (K, cn h K) cA) (al h K n) p.1 p.2 = ent E ad cid (al h K n) p.1 p.2 := by
        refine ent_ad (if_neg e) (fun i => ?_)
        rw [gR_al, if_neg (oldg p e)]
        exact cvP_ad (Or.inr (adN_ne (okP_ne hK1 (r4 p hp' i))))
      rw [e1, e2]
  · rcases split a ha with ea | ⟨ea, ha'⟩ <;> rcases split b hb with eb | ⟨eb, hb'⟩
    · rw [ea, eb]
    · subst ea
      rw [adN_eq, adN_ne eb] at hab
      have := posl b hb'
      omega
    · subst eb
      rw [adN_eq, adN_ne ea] at hab
      have := posl a ha'
      omega
    · rw [adN_ne ea, adN_ne eb] at hab
      exact r2 a b ha' hb' hab
  · rcases split p hp with e | ⟨e, hp'⟩
    · subst e
      show (cidN cid (K, cn h K) cA (K, cn h K), arrTy K) ∈ tys'
      rw [show cidN cid (K, cn h K) cA (K, cn h K) = cA from if_pos rfl]
      exact hA h6
    · rw [show cidN cid (K, cn h K) cA p = cid p from if_neg e]
      exact ht _ (r3 p hp' h6)
  · rw [gR_al]
    split
    · exact Or.inl rfl
    · rcases split p hp with e | ⟨e, hp'⟩
      · next hn => exact absurd (by rw [e]; exact ⟨rfl, rfl⟩) hn
      · exact (r4 p hp' i).mono (cn_al_le h K n)
theorem Bd_al {R : Room} {cells slots K n : Nat} {h : HS} (hB : Bd R cells slots h) (hc : nc h + 1 ≤ NCL) (hs : ns h + n ≤ NSL) : Bd R (cells + 1) (slots + n) (al h K n) := by
  obtain ⟨b1, b2⟩ := hB
  refine ⟨?_, ?_⟩
  · show cells + 1 + NCL ≤ R.cells + (nc h + 1) ∧ nc h + 1 ≤ NCL; omega
  · show slots + n + NSL ≤ R.slots + (ns h + n) ∧ ns h + n ≤ NSL; omega
theorem dfl_ty : ∀ q ∈ cinfT, ∀ k, k < q.2.2.2 → kty q.1 k ≠ 9 := by
  have h : cinfT.all (fun q => (List.range q.2.2.2).all (fun k => decide (kty q.1 k ≠ 9))) = true := by decide +kernel
  intro q hq k hk
  exact of_decide_eq_true (List.all_eq_true.mp (List.all_eq_true.mp h q hq) k (List.mem_range.mpr hk))
theorem dfl_def {ty : FieldType} (h9 : tyc ty ≠ 9) : defaultValue ty = dfl (tyc ty) := by
  cases ty <;> first | rfl | exact absurd rfl h9
section AL
variable {p : Program} {l : Launch} {e : Env} {R : Room} {s : State} {m : MethodId} {args : Array Value} {below : List Frame} {meth : Method} {c : Code} {H : Heap} {locs : List Loc} {cells slots : Nat} {Q : State → Prop}
variable {cc : ByteArray} {pc : Nat} {ls : Array Slot} {E : EV} {A : Nat → Prop} {ad ad0 : Pn → Nat} {h : HS} {K j n idx cN : Nat} {rest : List Value}
theorem low_new (hlow : ∀ p : Pn, p.1 < 1048576 → ad p = ad0 p) (hK : 1048576 ≤ K) {q : Nat} : ∀ p : Pn, p.1 < 1048576 → adN ad (K, j) q p = ad0 p := fun p hp => by
  rw [adN_ne (by intro e; rw [e] at hp; exact absurd hK (Nat.not_le.mpr hp))]
  exact hlow p hp
theorem w_new (hx : p.tables.exec = Jvm.exec) (hb : c.code = cc) (hts : ∀ w ∈ lw_all, w.before args s = true) (hown : s.vm.findClass (cnm cN) = some m.cls) (hA : ∀ q, s.heap.size ≤ q → A q) (hn : NewP cN idx K n) (hW : Wd E A ad0 s H locs ad h) (hB : Bd R cells slots h) (hc1 : nc h + 1 ≤ NCL) (hs1 : ns h + n ≤ NSL)
    (hdg : decode cc pc = .ok (.new idx, 3))
    (kk : ∀ q H1, Wd E A ad0 s H1 locs (adN ad (K, cn h K) q) (al h K n) → W p l e R s m args below meth c H1 locs (cells + 1) (slots + n) Q (F0 m (pc + 3) ls (.ref q :: rest))) : W p l e R s m args below meth c H locs cells slots Q (F0 m pc ls rest) := by
  obtain ⟨ws, tys, pos, cid, hK, hP, hD, hS, hr, hlow⟩ := hW
  obtain ⟨C, T, hci, hlk⟩ := hn
  obtain ⟨c1, ⟨ty, c2, c2t⟩, c3, c4, c5, c6, c7, c8, c9, c10⟩ := cinf_ok _ hci
  have c4 : n = ksz K := c4
  have hc' : cells + 1 ≤ R.cells := by have := hB.1; omega
  have hs' : slots + n ≤ R.slots := by have := hB.2; omega
  refine va_new (N := n) (fs := (List.range (ksz K)).map (fun i => dfl (kty K i))) hx hb hts c1 ty c2 hown (hts _ hlk) (hts _ c9) (hts _ c10) hK hP hD hS hA (cl0_at hci) ?_ hc' hs' hdg ?_
  · intro i hi
    have hk : kty K i ≠ 9 := dfl_ty _ hci i hi
    have e1 : tyc (ty i) = kty K i := c2t i hi
    rw [dfl_def (by rw [e1]; exact hk), e1]
    have hi' : i < ksz K := by rw [← c4]; exact hi
    simp [vp_V, hi']
  · intro q H1 hP1 hD1 hS1
    rw [← ent_new_obj (E := E) (ad := adN ad (K, cn h K) q) (cid := cidN cid (K, cn h K) 0) (h := h) (n := n) c5] at hP1 hD1
    exact kk q H1 ⟨_, tys, _, _, hK, hP1, hD1, hS1, rel_al hr c6 (fun x hx => hx) (fun z => absurd c5 z), low_new hlow c7⟩
theorem w_newa (hx : p.tables.exec = Jvm.exec) (hb : c.code = cc) (hts : ∀ w ∈ lw_all, w.before args s = true) (hA : ∀ q, s.heap.size ≤ q → A q) (hKk : K ∈ kindsL) (hW : Wd E A ad0 s H locs ad h) (hB : Bd R cells slots h) (hc1 : nc h + 1 ≤ NCL) (hs1 : ns h + klen K ≤ NSL) {t : ArrayType} (ht : atOf t = K % 16)
    (hdg : decode cc pc = .ok (.newarray t, 2))
    (kk : ∀ q H1, Wd E A ad0 s H1 locs (adN ad (K, cn h K) q) (al h K (klen K)) → W p l e R s m args below meth c H1 locs (cells + 1) (slots + klen K) Q (F0 m (pc + 2) ls (.ref q :: rest))) : W p l e R s m args below meth c H locs cells slots Q (F0 m pc ls (.int (nI (klen K)) :: rest)) := by
  obtain ⟨ws, tys, pos, cid, hK, hP, hD, hS, hr, hlow⟩ := hW
  obtain ⟨k1, k2, k3⟩ := kinds_ge K hKk
  have hl : klen K < 65536 := Nat.mod_lt _ (by decide)
  have hn0 : ¬ nI (klen K) < 0 := nI_pos (by omega)
  have hN : (nI (klen K)).toNatClampNeg = klen K := nI_clamp (by omega)
  have hc' : cells + 1 ≤ R.cells := by have := hB.1; omega
  have hs' : slots + klen K ≤ R.slots := by have := hB.2; omega
  have go : ∀ (q : Nat) (cA : ClassId) (H1 : Heap) (ty : FieldType) (a0 : vp_A), arrTy K = ty → (∀ cid' : Pn → ClassId, ent E (adN ad (K, cn h K) q) cid' (al h K (klen K)) K (cn h K) = .inl (cid' (K, cn h K), a0)) → va_K (E.1, E.2.1) cl0 (tys ++ [(cA, ty)]) s → va_P (E.1, E.2.1) cl0 (ws ++ [(q, .inl (cA, a0))]) H1 → va_D A (ws ++ [(q, .inl (cA, a0))]) → va_S A s.heap H1 locs → W p l e R s m args below meth c H1 locs (cells + 1) (slots + klen K) Q (F0 m (pc + 2) ls (.ref q :: rest)) := by
    intro q cA H1 ty a0 hty hen hK1 hP1 hD1 hS1
    have he := hen (cidN cid (K, cn h K) cA)
    rw [show cidN cid (K, cn h K) cA (K, cn h K) = cA from if_pos rfl] at he
    rw [← he] at hP1 hD1
    exact kk q H1 ⟨_, _, _, _, hK1, hP1, hD1, hS1, rel_al hr hKk (fun x hx => List.mem_append_left _ hx) (fun _ => by rw [hty]; exact List.mem_append_right _ List.mem_cons_self), low_new hlow k1⟩
  cases t with
  | int =>
    have h1 : K % 16 = 1 := ht.symm
    exact va_newa (atype := .int) (ty := .int) (a0 := (klen K, .inl (fun _ => 0))) hx hb (hts _ q226) rfl hK hP hD hS hA (fun cA => rfl) hn0 hN (by show klen K * 4 ≤ _; omega) hc' hs' hdg (fun q cA H1 => go q cA H1 .int _ (arrTy_I h1) (fun cid' => ent_new_I (by omega) (by omega) (by omega)))
  | byte =>
    have h1 : K % 16 = 2 := ht.symm
    exact va_newa (atype := .byte) (ty := .byte) (a0 := (klen K, .inl (fun _ => 0))) hx hb (hts _ q227) rfl hK hP hD hS hA (fun cA => rfl) hn0 hN (by show klen K * 1 ≤ _; omega) hc' hs' hdg (fun q cA H1 => go q cA H1 .byte _ (arrTy_B h1) (fun cid' => ent_new_I (by omega) (by omega) (by omega)))
  | boolean =>
    have h1 : K % 16 = 3 := ht.symm
    exact va_newa (atype := .boolean) (ty := .boolean) (a0 := (klen K, .inl (fun _ => 0))) hx hb (hts _ q324) rfl hK hP hD hS hA (fun cA => rfl) hn0 hN (by show klen K * 1 ≤ _; omega) hc' hs' hdg (fun q cA H1 => go q cA H1 .boolean _ (arrTy_Z h1) (fun cid' => ent_new_I (by omega) (by omega) (by omega)))
  | long =>
    have h1 : K % 16 = 4 := ht.symm
    exact va_newa (atype := .long) (ty := .long) (a0 := (klen K, .inr (.inl (fun _ => 0)))) hx hb (hts _ q325) rfl hK hP hD hS hA (fun cA => rfl) hn0 hN (by show klen K * 8 ≤ _; omega) hc' hs' hdg (fun q cA H1 => go q cA H1 .long _ (arrTy_J h1) (fun cid' => ent_new_L h1))
  | _ => exact absurd (show 0 = K % 16 from ht) (by omega)
theorem w_newq (hx : p.tables.exec = Jvm.exec) (hb : c.code = cc) (hts : ∀ w ∈ lw_all, w.before args s = true) (hown : s.vm.findClass (cnm (mown cN)) = some m.cls) (hov : OverA s) (hA : ∀ q, s.heap.size ≤ q → A q) (hn : AnP cN idx K) (hW : Wd E A ad0 s H locs ad h) (hB : Bd R cells slots h) (hc1 : nc h + 1 ≤ NCL) (hs1 : ns h + klen K ≤ NSL)
    (hdg : decode cc pc = .ok (.anewarray idx, 3))
    (kk : ∀ q H1, Wd E A ad0 s H1 locs (adN ad (K, cn h K) q) (al h K (klen K)) → W p l e R s m args below meth c H1 locs (cells + 1) (slots + klen K) Q (F0 m (pc + 3) ls (.ref q :: rest))) : W p l e R s m args below meth c H locs cells slots Q (F0 m pc ls (.int (nI (klen K)) :: rest)) := by
  obtain ⟨ws, tys, pos, cid, hK, hP, hD, hS, hr, hlow⟩ := hW
  obtain ⟨C, ⟨hty, h5, hKk⟩, hlk, hao⟩ := hn
  have hl : klen K < 65536 := Nat.mod_lt _ (by decide)
  refine va_newq hx hb hown (hts _ hlk) (hov _ hao) hK hP hD hS hA (nI_pos (by omega)) (nI_clamp (by omega)) (by omega) (by have := hB.1; omega) (by have := hB.2; omega) hdg ?_
  intro q cA H1 hK1 hP1 hD1 hS1
  have he := ent_new_R (E := E) (ad := adN ad (K, cn h K) q) (cid := cidN cid (K, cn h K) cA) (h := h) (n := klen K) h5
  rw [show cidN cid (K, cn h K) cA (K, cn h K) = cA from if_pos rfl] at he
  rw [← he] at hP1 hD1
  exact kk q H1 ⟨_, _, _, _, hK1, hP1, hD1, hS1, rel_al hr hKk (fun x hx => List.mem_append_left _ hx) (fun _ => by rw [hty]; exact List.mem_append_right _ List.mem_cons_self), low_new hlow (kinds_ge K hKk).1⟩
end AL
