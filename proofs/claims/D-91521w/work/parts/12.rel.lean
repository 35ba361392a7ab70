/-! the abstract heap and the real one -/
set_option maxRecDepth 100000
def cl0 : List vw_C := cinfT.map (fun q => (q.2.1, q.2.2.1, q.2.2.2))
def ciOf (K : Nat) : Nat := cinfT.findIdx (fun q => q.1 == K)
theorem cl0_len : cinfT.length = 20 := rfl
theorem cl0_idx : ∀ i : Fin 20, ciOf (cinfT[(i : Nat)]'(by rw [cl0_len]; exact i.isLt)).1 = i := by decide +kernel
theorem cl0_at {K N : Nat} {C : String} {T : u_T} (h : (K, C, T, N) ∈ cinfT) : cl0[ciOf K]? = some (C, T, N) := by
  obtain ⟨i, hi, e⟩ := List.mem_iff_getElem.mp h
  have h20 : i < 20 := by rw [← cl0_len]; exact hi
  have h1 := cl0_idx ⟨i, h20⟩
  simp only [e] at h1
  unfold cl0
  rw [List.getElem?_map, h1, List.getElem?_eq_getElem hi, e]
  rfl
theorem cinf_eq {K N N' : Nat} {C C' : String} {T T' : u_T} (h : (K, C, T, N) ∈ cinfT) (h' : (K, C', T', N') ∈ cinfT) : C = C' ∧ T = T' ∧ N = N' := by
  have e := (cl0_at h).symm.trans (cl0_at h')
  simp only [Option.some.injEq, Prod.mk.injEq] at e
  exact e
def fv (E : EV) (ad : Pn → Nat) (h : HS) (K j i : Nat) : Value := cv E ad (rd h K j i (kty K i))
def pOf (E : EV) (ad : Pn → Nat) (p : Pn) : Option Nat := match cvP E ad p with
  | .ref a => some a
  | _ => none
theorem rf_pOf {E : EV} {ad : Pn → Nat} {p : Pn} (hE : opqOK E) : va_rf (pOf E ad p) = cvP E ad p := by
  unfold pOf
  rcases cvP_ref (ad := ad) (p := p) hE with h | ⟨a, h⟩ <;> rw [h] <;> rfl
def arrC (E : EV) (ad : Pn → Nat) (h : HS) (K j : Nat) : (Nat → Int32) ⊕ (Nat → Int64) ⊕ (Nat → UInt32) ⊕ (Nat → UInt64) ⊕ (Nat → Option Nat) :=
  if K % 16 = 4 then .inr (.inl (fun i => gL h K j i)) else if K % 16 = 5 then .inr (.inr (.inr (.inr (fun i => pOf E ad (gR h K j i))))) else .inl (fun i => gI h K j i)
def ent (E : EV) (ad : Pn → Nat) (cid : Pn → ClassId) (h : HS) (K j : Nat) : va_E :=
  if K % 16 = 6 then .inr (ciOf K, (List.range (ksz K)).map (fun i => fv E ad h K j i)) else .inl (cid (K, j), klen K, arrC E ad h K j)
def inK (h : HS) (p : Pn) : Prop := p.1 ∈ kindsL ∧ p.2 < cn h p.1
def okP (h : HS) (p : Pn) : Prop := p.1 = 0 ∨ (p.1 = 7 ∧ p.2 < 3) ∨ (p.1 = 8 ∧ p.2 < 27) ∨ (p.1 = 9 ∧ p.2 < 27) ∨ p = (10, 0) ∨ p = (11, 0) ∨ inK h p
def okV (h : HS) (v : V) : Prop := match v with
  | .inr (.inr (.inl p)) => okP h p
  | _ => True
theorem kinds_ge : ∀ K ∈ kindsL, 1048576 ≤ K ∧ 1 ≤ K % 16 ∧ K % 16 ≤ 6 := by
  have h : kindsL.all (fun K => decide (1048576 ≤ K ∧ 1 ≤ K % 16 ∧ K % 16 ≤ 6)) = true := by decide +kernel
  intro K hK
  exact of_decide_eq_true (List.all_eq_true.mp h K hK)
theorem okP.in {h : HS} {p : Pn} (hp : okP h p) (hk : 1048576 ≤ p.1) : inK h p := by
  rcases hp with e | ⟨e, -⟩ | ⟨e, -⟩ | ⟨e, -⟩ | e | e | e
  · omega
  · omega
  · omega
  · omega
  · rw [e] at hk; simp at hk
  · rw [e] at hk; simp at hk
  · exact e
theorem okP.mono {h h' : HS} {p : Pn} (hp : okP h p) (hc : ∀ K, cn h K ≤ cn h' K) : okP h' p := by
  rcases hp with e | e | e | e | e | e | e
  · exact Or.inl e
  · exact Or.inr (Or.inl e)
  · exact Or.inr (Or.inr (Or.inl e))
  · exact Or.inr (Or.inr (Or.inr (Or.inl e)))
  · exact Or.inr (Or.inr (Or.inr (Or.inr (Or.inl e))))
  · exact Or.inr (Or.inr (Or.inr (Or.inr (Or.inr (Or.inl e)))))
  · exact Or.inr (Or.inr (Or.inr (Or.inr (Or.inr (Or.inr ⟨e.1, Nat.lt_of_lt_of_le e.2 (hc _)⟩)))))
theorem okV.mono {h h' : HS} {v : V} (hp : okV h v) (hc : ∀ K, cn h K ≤ cn h' K) : okV h' v := by
  rcases v with x | x | p | b
  · trivial
  · trivial
  · exact okP.mono hp hc
  · trivial
def rel (E : EV) (ws : va_W) (tys : List (ClassId × FieldType)) (pos ad : Pn → Nat) (cid : Pn → ClassId) (h : HS) : Prop :=
  (∀ p, inK h p → ws[pos p]? = some (ad p, ent E ad cid h p.1 p.2)) ∧ (∀ p q, inK h p → inK h q → pos p = pos q → p = q) ∧ (∀ p, inK h p → ¬ p.1 % 16 = 6 → (cid p, arrTy p.1) ∈ tys) ∧ ∀ p, inK h p → ∀ i, okP h (gR h p.1 p.2 i)
/-- the world: all cells that the law and what it calls have made -/
def Wd (E : EV) (A : Nat → Prop) (ad0 : Pn → Nat) (s : State) (H : Heap) (locs : List Loc) (ad : Pn → Nat) (h : HS) : Prop :=
  ∃ ws tys pos cid, va_K (E.1, E.2.1) cl0 tys s ∧ va_P (E.1, E.2.1) cl0 ws H ∧ va_D A ws ∧ va_S A s.heap H locs ∧ rel E ws tys pos ad cid h ∧ ∀ p : Pn, p.1 < 1048576 → ad p = ad0 p
def Bd (R : Room) (cells slots : Nat) (h : HS) : Prop := (cells + NCL ≤ R.cells + nc h ∧ nc h ≤ NCL) ∧ slots + NSL ≤ R.slots + ns h ∧ ns h ≤ NSL
theorem ent_obj {E : EV} {ad : Pn → Nat} {cid : Pn → ClassId} {h : HS} {K j : Nat} (hK : K % 16 = 6) : ent E ad cid h K j = .inr (ciOf K, (List.range (ksz K)).map (fun i => fv E ad h K j i)) := if_pos hK
theorem ent_I {E : EV} {ad : Pn → Nat} {cid : Pn → ClassId} {h : HS} {K j : Nat} (h4 : ¬ K % 16 = 4) (h5 : ¬ K % 16 = 5) (h6 : ¬ K % 16 = 6) : ent E ad cid h K j = .inl (cid (K, j), klen K, .inl (fun i => gI h K j i)) := by
  unfold ent arrC; rw [if_neg h6, if_neg h4, if_neg h5]
theorem ent_L {E : EV} {ad : Pn → Nat} {cid : Pn → ClassId} {h : HS} {K j : Nat} (h4 : K % 16 = 4) : ent E ad cid h K j = .inl (cid (K, j), klen K, .inr (.inl (fun i => gL h K j i))) := by
  unfold ent arrC; rw [if_neg (by omega), if_pos h4]
theorem ent_R {E : EV} {ad : Pn → Nat} {cid : Pn → ClassId} {h : HS} {K j : Nat} (h5 : K % 16 = 5) : ent E ad cid h K j = .inl (cid (K, j), klen K, .inr (.inr (.inr (.inr (fun i => pOf E ad (gR h K j i)))))) := by
  unfold ent arrC; rw [if_neg (by omega), if_neg (by omega), if_pos h5]
theorem ent_congr {E : EV} {ad : Pn → Nat} {cid : Pn → ClassId} {h h' : HS} {K j : Nat} (h1 : ∀ i, gI h' K j i = gI h K j i) (h2 : ∀ i, gL h' K j i = gL h K j i) (h3 : ∀ i, gR h' K j i = gR h K j i) : ent E ad cid h' K j = ent E ad cid h K j := by
  simp only [ent, arrC, fv, rd, h1, h2, h3]
/-- another address map that agrees on what is there -/
theorem cvP_ad {E : EV} {ad ad' : Pn → Nat} {p : Pn} (hp : p.1 = 0 ∨ ad' p = ad p) : cvP E ad' p = cvP E ad p := by
  unfold cvP
  by_cases h0 : p.1 = 0
  · rw [if_pos h0, if_pos h0]
  · rw [if_neg h0, if_neg h0, hp.resolve_left h0]
theorem ent_ad {E : EV} {ad ad' : Pn → Nat} {cid cid' : Pn → ClassId} {h : HS} {K j : Nat} (hc : cid' (K, j) = cid (K, j)) (hp : ∀ i, cvP E ad' (gR h K j i) = cvP E ad (gR h K j i)) : ent E ad' cid' h K j = ent E ad cid h K j := by
  have hf : ∀ i, fv E ad' h K j i = fv E ad h K j i := by
    intro i
    unfold fv rd
    split
    · rfl
    · split
      · exact hp i
      · rfl
  have ha : ∀ i, pOf E ad' (gR h K j i) = pOf E ad (gR h K j i) := by
    intro i
    unfold pOf
    rw [hp i]
  simp only [ent, arrC, hf, ha, hc]
theorem rel_set {E : EV} {ws : va_W} {tys : List (ClassId × FieldType)} {pos ad : Pn → Nat} {cid : Pn → ClassId} {h h' : HS} (hr : rel E ws tys pos ad cid h) {p : Pn} (hp : inK h p) (hcn : ∀ K, cn h' K = cn h K)
    (ho : ∀ q, inK h q → q ≠ p → ent E ad cid h' q.1 q.2 = ent E ad cid h q.1 q.2) (hg : ∀ q, inK h q → ∀ i, okP h (gR h' q.1 q.2 i)) : rel E (ws.set (pos p) (ad p, ent E ad cid h' p.1 p.2)) tys pos ad cid h' := by
  have hin : ∀ q, inK h' q → inK h q := fun q hq => ⟨hq.1, by rw [← hcn]; exact hq.2⟩
  obtain ⟨r1, r2, r3, r4⟩ := hr
  refine ⟨fun q hq => ?_, fun a b ha hb => r2 a b (hin a ha) (hin b hb), fun q hq => r3 q (hin q hq), fun q hq i => (hg q (hin q hq) i).mono (fun K => by rw [hcn]; exact Nat.le_refl _)⟩
  have hq' := hin q hq
  by_cases e : q = p
  · subst e
    rw [List.getElem?_set_self (List.getElem?_eq_some_iff.mp (r1 q hq')).1]
  · rw [List.getElem?_set_ne (fun z => e (r2 q p hq' hp z.symm)), r1 q hq', ho q hq' e]
theorem map_set {f g : Nat → Value} {n k : Nat} {v : Value} (hk : g k = v) (ho : ∀ i, i ≠ k → g i = f i) : (List.range n).map (fun i => g i) = ((List.range n).map (fun i => f i)).set k v := by
  apply List.ext_getElem
  · simp
  · intro i h1 h2
    simp only [List.getElem_map, List.getElem_range, List.getElem_set]
    split
    · next e => subst e; exact hk
    · next e => exact ho i (Ne.symm e)
theorem gI_sI (h : HS) (K j i : Nat) (v : Int32) (K' j' i' : Nat) : gI (sI h K j i v) K' j' i' = if K' = K ∧ j' = j ∧ i' = i then v else gI h K' j' i' := rfl
theorem gL_sL (h : HS) (K j i : Nat) (v : Int64) (K' j' i' : Nat) : gL (sL h K j i v) K' j' i' = if K' = K ∧ j' = j ∧ i' = i then v else gL h K' j' i' := rfl
theorem gR_sR (h : HS) (K j i : Nat) (v : Pn) (K' j' i' : Nat) : gR (sR h K j i v) K' j' i' = if K' = K ∧ j' = j ∧ i' = i then v else gR h K' j' i' := rfl
theorem apart_if {α : Type} {K j i K' j' i' : Nat} {a b : α} (h : ((K', j') : Pn) ≠ (K, j)) : (if K' = K ∧ j' = j ∧ i' = i then a else b) = b := if_neg (fun z => h (by rw [z.1, z.2.1]))
theorem rel_sI {E : EV} {ws : va_W} {tys : List (ClassId × FieldType)} {pos ad : Pn → Nat} {cid : Pn → ClassId} {h : HS} (hr : rel E ws tys pos ad cid h) {K j i : Nat} (hp : inK h (K, j)) (v : Int32) : rel E (ws.set (pos (K, j)) (ad (K, j), ent E ad cid (sI h K j i v) K j)) tys pos ad cid (sI h K j i v) :=
  rel_set hr hp (fun _ => rfl) (fun q _ hne => ent_congr (fun i' => by rw [gI_sI]; exact apart_if hne) (fun _ => rfl) (fun _ => rfl)) (fun q hq i' => hr.2.2.2 q hq i')
theorem rel_sL {E : EV} {ws : va_W} {tys : List (ClassId × FieldType)} {pos ad : Pn → Nat} {cid : Pn → ClassId} {h : HS} (hr : rel E ws tys pos ad cid h) {K j i : Nat} (hp : inK h (K, j)) (v : Int64) : rel E (ws.set (pos (K, j)) (ad (K, j), ent E ad cid (sL h K j i v) K j)) tys pos ad cid (sL h K j i v) :=
  rel_set hr hp (fun _ => rfl) (fun q _ hne => ent_congr (fun _ => rfl) (fun i' => by rw [gL_sL]; exact apart_if hne) (fun _ => rfl)) (fun q hq i' => hr.2.2.2 q hq i')
theorem rel_sR {E : EV} {ws : va_W} {tys : List (ClassId × FieldType)} {pos ad : Pn → Nat} {cid : Pn → ClassId} {h : HS} (hr : rel E ws tys pos ad cid h) {K j i : Nat} (hp : inK h (K, j)) {v : Pn} (hv : okP h v) : rel E (ws.set (pos (K, j)) (ad (K, j), ent E ad cid (sR h K j i v) K j)) tys pos ad cid (sR h K j i v) :=
  rel_set hr hp (fun _ => rfl) (fun q _ hne => ent_congr (fun _ => rfl) (fun _ => rfl) (fun i' => by rw [gR_sR]; exact apart_if hne)) (fun q hq i' => by
    rw [gR_sR]
    split
    · exact hv
    · exact hr.2.2.2 q hq i')
/-- the entries after a write -/
theorem ent_sI_obj {E : EV} {ad : Pn → Nat} {cid : Pn → ClassId} {h : HS} {K j k : Nat} {x : Int32} (h6 : K % 16 = 6) (ht : kty K k = 0 ∨ kty K k = 5) : ent E ad cid (sI h K j k x) K j = .inr (ciOf K, ((List.range (ksz K)).map (fun i => fv E ad h K j i)).set k (.int x)) := by
  rw [ent_obj h6, map_set (f := fun i => fv E ad h K j i) (k := k) (v := .int x)]
  · unfold fv rd
    rw [gI_sI, if_neg (by omega), if_neg (by omega), if_pos ⟨rfl, rfl, rfl⟩]
    rfl
  · intro i hi
    have e : gI (sI h K j k x) K j i = gI h K j i := by rw [gI_sI]; exact if_neg (fun z => hi z.2.2)
    unfold fv rd
    rw [e]
    rfl
theorem ent_sL_obj {E : EV} {ad : Pn → Nat} {cid : Pn → ClassId} {h : HS} {K j k : Nat} {x : Int64} (h6 : K % 16 = 6) (ht : kty K k = 1) : ent E ad cid (sL h K j k x) K j = .inr (ciOf K, ((List.range (ksz K)).map (fun i => fv E ad h K j i)).set k (.long x)) := by
  rw [ent_obj h6, map_set (f := fun i => fv E ad h K j i) (k := k) (v := .long x)]
  · unfold fv rd
    rw [gL_sL, if_pos ht, if_pos ⟨rfl, rfl, rfl⟩]
    rfl
  · intro i hi
    have e : gL (sL h K j k x) K j i = gL h K j i := by rw [gL_sL]; exact if_neg (fun z => hi z.2.2)
    unfold fv rd
    rw [e]
    rfl
theorem ent_sR_obj {E : EV} {ad : Pn → Nat} {cid : Pn → ClassId} {h : HS} {K j k : Nat} {x : Pn} (h6 : K % 16 = 6) (ht : kty K k = 2) : ent E ad cid (sR h K j k x) K j = .inr (ciOf K, ((List.range (ksz K)).map (fun i => fv E ad h K j i)).set k (cvP E ad x)) := by
  rw [ent_obj h6, map_set (f := fun i => fv E ad h K j i) (k := k) (v := cvP E ad x)]
  · unfold fv rd
    rw [gR_sR, if_neg (by omega), if_pos ht, if_pos ⟨rfl, rfl, rfl⟩]
    rfl
  · intro i hi
    have e : gR (sR h K j k x) K j i = gR h K j i := by rw [gR_sR]; exact if_neg (fun z => hi z.2.2)
    unfold fv rd
    rw [e]
    rfl
theorem ent_sI_arr {E : EV} {ad : Pn → Nat} {cid : Pn → ClassId} {h : HS} {K j k : Nat} {x : Int32} (h4 : ¬ K % 16 = 4) (h5 : ¬ K % 16 = 5) (h6 : ¬ K % 16 = 6) : ent E ad cid (sI h K j k x) K j = .inl (cid (K, j), klen K, .inl (upd (fun i => gI h K j i) k x)) := by
  rw [ent_I h4 h5 h6]
  have e : (fun i => gI (sI h K j k x) K j i) = upd (fun i => gI h K j i) k x := by
    funext i
    rw [gI_sI]
    simp [upd]
  rw [e]
theorem ent_sL_arr {E : EV} {ad : Pn → Nat} {cid : Pn → ClassId} {h : HS} {K j k : Nat} {x : Int64} (h4 : K % 16 = 4) : ent E ad cid (sL h K j k x) K j = .inl (cid (K, j), klen K, .inr (.inl (vp_updL (fun i => gL h K j i) k x))) := by
  rw [ent_L h4]
  have e : (fun i => gL (sL h K j k x) K j i) = vp_updL (fun i => gL h K j i) k x := by
    funext i
    rw [gL_sL]
    simp [vp_updL]
  rw [e]
theorem ent_sR_arr {E : EV} {ad : Pn → Nat} {cid : Pn → ClassId} {h : HS} {K j k : Nat} {x : Pn} (h5 : K % 16 = 5) : ent E ad cid (sR h K j k x) K j = .inl (cid (K, j), klen K, .inr (.inr (.inr (.inr (va_up (fun i => pOf E ad (gR h K j i)) k (pOf E ad x)))))) := by
  rw [ent_R h5]
  have e : (fun i => pOf E ad (gR (sR h K j k x) K j i)) = va_up (fun i => pOf E ad (gR h K j i)) k (pOf E ad x) := by
    funext i
    rw [gR_sR]
    simp only [va_up, true_and]
    split <;> rfl
  rw [e]
