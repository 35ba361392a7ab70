/-! the abstract machine and the real one: arrays of arrays in the world -/
def rowsH (K j1 K2 n2 : Nat) (h0 : HS) : Nat → HS
  | 0 => h0
  | i + 1 => sR (al (rowsH K j1 K2 n2 h0 i) K2 n2) K j1 i (K2, cn (rowsH K j1 K2 n2 h0 i) K2)
theorem alRows_eq (K j1 K2 n2 : Nat) (h0 : HS) : ∀ n i, alRows K j1 K2 n2 n i (rowsH K j1 K2 n2 h0 i) = rowsH K j1 K2 n2 h0 (i + n) := by
  intro n
  induction n with
  | zero => intro i; rfl
  | succ n ih =>
    intro i
    show alRows K j1 K2 n2 n (i + 1) (rowsH K j1 K2 n2 h0 (i + 1)) = _
    rw [ih (i + 1), show i + 1 + n = i + (n + 1) by omega]
theorem al2_eq (h : HS) (K n1 K2 n2 : Nat) : al2 h K n1 K2 n2 = rowsH K (cn h K) K2 n2 (al h K n1) n1 := by
  have := alRows_eq K (cn h K) K2 n2 (al h K n1) n1 0
  rw [Nat.zero_add] at this
  exact this
def zeC (K : Nat) : (Nat → Int32) ⊕ (Nat → Int64) ⊕ (Nat → UInt32) ⊕ (Nat → UInt64) ⊕ (Nat → Option Nat) :=
  if K % 16 = 4 then .inr (.inl (fun _ => 0)) else if K % 16 = 5 then .inr (.inr (.inr (.inr (fun _ => none)))) else .inl (fun _ => 0)
theorem ent_new_arr {E : EV} {ad : Pn → Nat} {cid : Pn → ClassId} {h : HS} {K n : Nat} (h6 : ¬ K % 16 = 6) : ent E ad cid (al h K n) K (cn h K) = .inl (cid (K, cn h K), klen K, zeC K) := by
  unfold zeC
  by_cases h4 : K % 16 = 4
  · rw [ent_new_L h4, if_pos h4]
  · by_cases h5 : K % 16 = 5
    · rw [ent_new_R h5, if_neg h4, if_pos h5]
    · rw [ent_new_I h4 h5 h6, if_neg h4, if_neg h5]
def rfs (b i : Nat) : Nat → Option Nat := fun j => if j < i then some (b + 1 + j) else none
def rowL (cR : ClassId) (K2 b i : Nat) : va_W := (List.range i).map (fun j => (b + 1 + j, .inl (cR, klen K2, zeC K2)))
theorem lowne {K j : Nat} {p : Pn} (hK : 1048576 ≤ K) (hp : p.1 < 1048576) : p ≠ (K, j) := by
  intro e
  rw [e] at hp
  have hp : K < 1048576 := hp
  omega
theorem rel_rows {E : EV} {ws : va_W} {tys tys' : List (ClassId × FieldType)} {pos ad : Pn → Nat} {cid : Pn → ClassId} {h : HS} {K K2 b : Nat} {cA cR : ClassId} (hr : rel E ws tys pos ad cid h) (hK : K ∈ kindsL) (hK2 : K2 ∈ kindsL) (h5 : K % 16 = 5) (h6 : ¬ K2 % 16 = 6) (hne : K ≠ K2)
    (ht : ∀ x ∈ tys, x ∈ tys') (hA : (cA, arrTy K) ∈ tys') (hR : (cR, arrTy K2) ∈ tys') :
    ∀ i, ∃ pos' ad' cid', rel E (ws ++ (b, .inl (cA, klen K, .inr (.inr (.inr (.inr (rfs b i)))))) :: rowL cR K2 b i) tys' pos' ad' cid' (rowsH K (cn h K) K2 (klen K2) (al h K (klen K)) i) ∧ ad' (K, cn h K) = b ∧ pos' (K, cn h K) = ws.length ∧ cid' (K, cn h K) = cA ∧ (∀ p, okP h p ∨ p.1 < 1048576 → ad' p = ad p) ∧
      cn (rowsH K (cn h K) K2 (klen K2) (al h K (klen K)) i) K = cn h K + 1 ∧ (∀ K', cn h K' ≤ cn (rowsH K (cn h K) K2 (klen K2) (al h K (klen K)) i) K') ∧
      nc (rowsH K (cn h K) K2 (klen K2) (al h K (klen K)) i) = nc h + 1 + i ∧ ns (rowsH K (cn h K) K2 (klen K2) (al h K (klen K)) i) = ns h + klen K + i * klen K2 := by
  have k1 := (kinds_ge K hK).1
  have k2 := (kinds_ge K2 hK2).1
  intro i
  induction i with
  | zero =>
    have r := rel_al (n := klen K) (q := b) (cA := cA) hr hK ht (fun _ => hA)
    rw [ent_new_R h5, show cidN cid (K, cn h K) cA (K, cn h K) = cA from if_pos rfl] at r
    refine ⟨adN pos (K, cn h K) ws.length, adN ad (K, cn h K) b, cidN cid (K, cn h K) cA, ?_, adN_eq, adN_eq, if_pos rfl, fun p hp => adN_ne (hp.elim (okP_ne k1) (lowne k1)), ?_, cn_al_le h K (klen K), rfl, ?_⟩
    · have e : rfs b 0 = (fun _ => none) := by funext j; simp [rfs]
      rw [e]
      exact r
    · show (if K = K then cn h K + 1 else cn h K) = _
      rw [if_pos rfl]
    · show ns h + klen K = _
      omega
  | succ i ih =>
    obtain ⟨pos', ad', cid', r, a1, a2, a3, a4, a5, a6, a7, a8⟩ := ih
    generalize hh : rowsH K (cn h K) K2 (klen K2) (al h K (klen K)) i = h1 at r a5 a6 a7 a8
    have e0 : rowsH K (cn h K) K2 (klen K2) (al h K (klen K)) (i + 1) = sR (al h1 K2 (klen K2)) K (cn h K) i (K2, cn h1 K2) := by
      show sR (al (rowsH K (cn h K) K2 (klen K2) (al h K (klen K)) i) K2 (klen K2)) K (cn h K) i (K2, cn (rowsH K (cn h K) K2 (klen K2) (al h K (klen K)) i) K2) = _
      rw [hh]
    rw [e0]
    have inA : inK h1 (K, cn h K) := ⟨hK, by show cn h K < cn h1 K; omega⟩
    have r2 := rel_al (n := klen K2) (q := b + 1 + i) (cA := cR) r hK2 (fun x hx => hx) (fun _ => hR)
    rw [ent_new_arr h6, show cidN cid' (K2, cn h1 K2) cR (K2, cn h1 K2) = cR from if_pos rfl] at r2
    have neA : ((K, cn h K) : Pn) ≠ (K2, cn h1 K2) := fun z => hne (congrArg Prod.fst z)
    have inA2 : inK (al h1 K2 (klen K2)) (K, cn h K) := ⟨hK, Nat.lt_of_lt_of_le inA.2 (cn_al_le h1 K2 (klen K2) K)⟩
    have okN : okP (al h1 K2 (klen K2)) (K2, cn h1 K2) := Or.inr (Or.inr (Or.inr (Or.inr (Or.inr (Or.inr ⟨hK2, by show cn h1 K2 < cn (al h1 K2 (klen K2)) K2; rw [cn_al, if_pos rfl]; omega⟩)))))
    have en := r2.1 (K, cn h K) inA2
    have r3 := rel_sR (i := i) r2 inA2 okN
    rw [adN_ne neA, a2] at r3 en
    rw [adN_ne neA, a1] at r3 en
    rw [ent_sR_arr h5] at r3
    have en : _ = some (b, ent E (adN ad' (K2, cn h1 K2) (b + 1 + i)) (cidN cid' (K2, cn h1 K2) cR) (al h1 K2 (klen K2)) K (cn h K)) := en
    rw [ent_R h5, List.append_assoc, List.getElem?_append_right (Nat.le_refl _), Nat.sub_self] at en
    have en2 := Option.some.inj en
    have en3 : rfs b i = fun i' => pOf E (adN ad' (K2, cn h1 K2) (b + 1 + i)) (gR (al h1 K2 (klen K2)) K (cn h K) i') := by
      have := congrArg Prod.snd en2
      simp only [Sum.inl.injEq, Prod.mk.injEq, Sum.inr.injEq, true_and] at this
      exact this.2
    rw [← en3] at r3
    have pn : pOf E (adN ad' (K2, cn h1 K2) (b + 1 + i)) (K2, cn h1 K2) = some (b + 1 + i) := by
      unfold pOf cvP
      rw [if_neg (by show ¬ K2 = 0; omega), if_neg (by show ¬ K2 = 7; omega), adN_eq]
    have e4 : va_up (rfs b i) i (pOf E (adN ad' (K2, cn h1 K2) (b + 1 + i)) (K2, cn h1 K2)) = rfs b (i + 1) := by
      rw [pn]
      funext j
      unfold va_up rfs
      by_cases hj : j = i
      · subst hj; simp
      · rw [if_neg hj]
        by_cases hj2 : j < i
        · rw [if_pos hj2, if_pos (by omega)]
        · rw [if_neg hj2, if_neg (by omega)]
    rw [e4, show cidN cid' (K2, cn h1 K2) cR (K, cn h K) = cA from (if_neg neA).trans a3] at r3
    have el : ((ws ++ (b, Sum.inl (cA, klen K, Sum.inr (Sum.inr (Sum.inr (Sum.inr (rfs b i)))))) :: rowL cR K2 b i) ++ [(b + 1 + i, Sum.inl (cR, klen K2, zeC K2))]).set ws.length (b, Sum.inl (cA, klen K, Sum.inr (Sum.inr (Sum.inr (Sum.inr (rfs b (i + 1))))))) = ws ++ (b, Sum.inl (cA, klen K, Sum.inr (Sum.inr (Sum.inr (Sum.inr (rfs b (i + 1))))))) :: rowL cR K2 b (i + 1) := by
      rw [List.append_assoc, List.set_append_right _ _ (Nat.le_refl _), Nat.sub_self]
      unfold rowL
      rw [List.range_succ, List.map_append]
      rfl
    have r3 : rel E (((ws ++ (b, Sum.inl (cA, klen K, Sum.inr (Sum.inr (Sum.inr (Sum.inr (rfs b i)))))) :: rowL cR K2 b i) ++ [(b + 1 + i, Sum.inl (cR, klen K2, zeC K2))]).set ws.length (b, Sum.inl (cA, klen K, Sum.inr (Sum.inr (Sum.inr (Sum.inr (rfs b (i + 1)))))))) tys' _ _ _ _ := r3
    rw [el] at r3
    refine ⟨_, _, _, r3, (adN_ne neA).trans a1, (adN_ne neA).trans a2, (if_neg neA).trans a3, fun p hp => (adN_ne (hp.elim (fun z => okP_ne k2 (z.mono a6)) (lowne k2))).trans (a4 p hp), ?_, fun K' => Nat.le_trans (a6 K') (cn_al_le h1 K2 (klen K2) K'), ?_, ?_⟩
    · show (if K = K2 then _ else cn h1 K) = _
      rw [if_neg hne]
      exact a5
    · show nc h1 + 1 = _
      omega
    · show ns h1 + klen K2 = _
      rw [a8, Nat.succ_mul]
      omega
section WM2
variable {p : Program} {l : Launch} {e : Env} {R : Room} {s : State} {m : MethodId} {args : Array Value} {below : List Frame} {meth : Method} {c : Code} {H : Heap} {locs : List Loc} {cells slots : Nat} {Q : State → Prop}
variable {cc : ByteArray} {pc : Nat} {ls : Array Slot} {E : EV} {A : Nat → Prop} {ad ad0 : Pn → Nat} {h : HS} {K K2 idx M : Nat} {rest : List Value}
theorem row_at {cR : ClassId} {b i k : Nat} {q : Nat × va_E} (h : (rowL cR K2 b i)[k]? = some q) : k < i ∧ q = (b + 1 + k, .inl (cR, klen K2, zeC K2)) := by
  unfold rowL at h
  rw [List.getElem?_map] at h
  have hk : k < i := by
    rcases Nat.lt_or_ge k i with z | z
    · exact z
    · rw [List.getElem?_eq_none (by simp; exact z)] at h
      cases h
  rw [List.getElem?_range hk] at h
  exact ⟨hk, (Option.some.inj h).symm⟩
theorem w_multi (hx : p.tables.exec = Jvm.exec) (hb : c.code = cc) (hts : ∀ w ∈ lw_all, w.before args s = true) (hown : s.vm.findClass (cnm (mown M)) = some m.cls) (hA : ∀ q, s.heap.size ≤ q → A q) (hmu : MulC s) (hs2 : S2P M idx K K2) (hW : Wd E A ad0 s H locs ad h) (hB : Bd R cells slots h) (hc1 : nc h + 1 + klen K ≤ NCL) (hs1 : ns h + klen K + klen K * klen K2 ≤ NSL)
    (hdg : decode cc pc = .ok (.multianewarray idx 2, 4))
    (kk : ∀ q H1 locs1 ad1, Wd E A ad0 s H1 locs1 ad1 (al2 h K (klen K) K2 (klen K2)) → Bd R (cells + 1 + klen K) (slots + klen K + klen K * klen K2) (al2 h K (klen K) K2 (klen K2)) → (∀ K', cn h K' ≤ cn (al2 h K (klen K) K2 (klen K2)) K') → inK (al2 h K (klen K) K2 (klen K2)) (K, cn h K) → ad1 (K, cn h K) = q → (∀ x, okP h x → ad1 x = ad x) →
      W p l e R s m args below meth c H1 locs1 (cells + 1 + klen K) (slots + klen K + klen K * klen K2) Q (F0 m (pc + 4) ls (.ref q :: rest))) : W p l e R s m args below meth c H locs cells slots Q (F0 m pc ls (.int (nI (klen K2)) :: .int (nI (klen K)) :: rest)) := by
  obtain ⟨ws, tys, pos, cid, hK, hP, hD, hS, hr, hlow⟩ := hW
  obtain ⟨ty, ⟨t1, t2, t3, t4, t5, t6, t7, t8, t9, t10⟩, hlk⟩ := hs2
  have l1 : klen K < 65536 := Nat.mod_lt _ (by decide)
  have l2 : klen K2 < 65536 := Nat.mod_lt _ (by decide)
  obtain ⟨b1, b2⟩ := hB
  refine w_multi0 (N := klen K) (M := klen K2) hx hb hown (hts _ hlk) (hmu ty t1) t1 (nI_pos (by omega)) (nI_pos (by omega)) (nI_clamp (by omega)) (nI_clamp (by omega)) l1 l2 (by omega) (by omega) hdg ?_
  intro H1 cA cR z1 z2 z3 z4 kA kR
  obtain ⟨pos', ad', cid', r, a1, a2, a3, a4, a5, a6, a7, a8⟩ := rel_rows (b := H.size) (cA := cA) (cR := cR) (tys' := tys ++ [(cA, .array ty), (cR, ty)]) hr t5 t6 t4 t8 t7 (fun x hx => List.mem_append_left _ hx) (by rw [t2]; simp) (by rw [t3]; simp) (klen K)
  rw [← al2_eq] at r a5 a6 a7 a8
  refine kk H.size H1 _ ad' ⟨_, _, pos', cid', ?_, ?_, ?_, ?_, r, ?_⟩ ?_ a6 ⟨t5, by show cn h K < cn _ K; omega⟩ a1 (fun x hx => a4 x (Or.inl hx))
  · refine ⟨hK.1, fun k x hx => ?_⟩
    by_cases hl : k < tys.length
    · rw [List.getElem?_append_left hl] at hx
      exact hK.2 k x hx
    · rw [List.getElem?_append_right (by omega)] at hx
      have hz : k - tys.length < 2 := (List.getElem?_eq_some_iff.mp hx).1
      rcases (by omega : k - tys.length = 0 ∨ k - tys.length = 1) with z | z
      · rw [z] at hx; cases hx; exact kA
      · rw [z] at hx; cases hx; exact kR
  · refine (hP.kept (fun k q hq => z3 _ (hP k q hq).lt)).app (fun k q hq => ?_)
    cases k with
    | zero =>
      cases hq
      show H1[H.size]? = some (arrV cA (klen K) (fun j => va_rf (rfs H.size (klen K) j)))
      rw [z2]
      unfold mtop
      congr 2
      funext j
      unfold rfs
      split <;> rfl
    | succ k =>
      rw [List.getElem?_cons_succ] at hq
      obtain ⟨hk, rfl⟩ := row_at hq
      show H1[H.size + 1 + k]? = some (vp_cell cR (klen K2, zeC K2))
      rw [z4 k hk]
      unfold mrow zeC
      by_cases h4 : K2 % 16 = 4
      · rw [if_pos h4, t9.mp h4]; rfl
      · by_cases h5 : K2 % 16 = 5
        · rw [if_neg h4, if_pos h5]
          have := t10.mp h5
          cases ty <;> simp [FieldType.isReference] at this <;> rfl
        · rw [if_neg h4, if_neg h5]
          simp only [mulTys, List.mem_cons, List.not_mem_nil, or_false] at t1
          rcases t1 with e | e | e
          · rw [e]; rfl
          · exact absurd (t9.mpr e) h4
          · exact absurd (t10.mpr (by rw [e]; rfl)) h5
  · have ha : ∀ (k : Nat) (q : Nat × va_E), (ws ++ (H.size, Sum.inl (cA, klen K, Sum.inr (Sum.inr (Sum.inr (Sum.inr (rfs H.size (klen K))))))) :: rowL cR K2 H.size (klen K))[k]? = some q → (k < ws.length ∧ ws[k]? = some q ∧ q.1 < H.size) ∨ (ws.length ≤ k ∧ q.1 = H.size + (k - ws.length)) := by
      intro k q hq
      by_cases hl : k < ws.length
      · rw [List.getElem?_append_left hl] at hq
        exact Or.inl ⟨hl, hq, (hP k q hq).lt⟩
      · rw [List.getElem?_append_right (by omega)] at hq
        refine Or.inr ⟨by omega, ?_⟩
        generalize k - ws.length = i at hq ⊢
        cases i with
        | zero => cases hq; rfl
        | succ i =>
          rw [List.getElem?_cons_succ] at hq
          obtain ⟨-, rfl⟩ := row_at hq
          show H.size + 1 + i = _
          omega
    refine ⟨fun i j x y hi hj hxy => ?_, fun k q hq => ?_⟩
    · rcases ha i x hi with ⟨i1, i2, i3⟩ | ⟨i1, i2⟩ <;> rcases ha j y hj with ⟨j1, j2, j3⟩ | ⟨j1, j2⟩
      · exact hD.1 i j x y i2 j2 hxy
      · omega
      · omega
      · omega
    · rcases ha k q hq with ⟨i1, i2, i3⟩ | ⟨i1, i2⟩
      · exact hD.2 k q i2
      · exact hA _ (by have := hS.1; omega)
  · refine ⟨Nat.le_trans hS.1 (by omega), fun x h1 h2 => (z3 x (Nat.lt_of_lt_of_le h1 hS.1)).trans (hS.2.1 x h1 h2), fun q hq => ?_⟩
    rcases List.mem_append.mp hq with z | z
    · exact hS.2.2 q z
    · obtain ⟨j, -, rfl⟩ := List.mem_map.mp z
      exact hA _ hS.1
  · intro x hx
    rw [a4 x (Or.inr hx)]
    exact hlow x hx
  · refine ⟨?_, ?_⟩
    · rw [a7]; omega
    · rw [a8]; omega
end WM2
