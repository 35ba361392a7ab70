/-! the abstract machine and the real one: every step of the memory -/
def Cx (E : EV) (A : Nat → Prop) (ad0 : Pn → Nat) (Ls : Nat) (xs : Nat → Int32) (s : State) : Prop :=
  NestF s ∧ NestM s ∧ OverA s ∧ DeclD s ∧ CastC s ∧ StrC A ad0 s ∧ StaC E A ad0 s ∧ MulC s ∧ va_T .int (ad0 (11, 0)) 4 (fun i => .int (mostC.getD i 0)) A s s.heap ∧ va_X (ad0 (10, 0)) Ls xs s s.heap ∧ (ad0 (10, 0) < s.heap.size ∧ ¬ A (ad0 (10, 0))) ∧ opqOK E ∧ ∀ q, s.heap.size ≤ q → A q
/-- what the machine's method is -/
def Mx (p : Program) (s : State) (m : MethodId) (args : Array Value) (meth : Method) (c : Code) (M : Nat) : Prop :=
  p.tables.exec = Jvm.exec ∧ c.code = mC M ∧ s.vm.findClass (cnm (mown M)) = some m.cls ∧ (∀ w ∈ lw_all, w.before args s = true) ∧ (∀ K, initT.lookup M = some K → meth.name = (mY M).name) ∧ c.maxLocals = mloc M
def okS (h : HS) (S : List V) : Prop := ∀ v ∈ S, okV h v
theorem okS.tail {h : HS} {v : V} {S : List V} (hs : okS h (v :: S)) : okS h S := fun w hw => hs w (List.mem_cons_of_mem _ hw)
theorem okS.head {h : HS} {v : V} {S : List V} (hs : okS h (v :: S)) : okV h v := hs v List.mem_cons_self
theorem okS.cons {h : HS} {v : V} {S : List V} (hv : okV h v) (hs : okS h S) : okS h (v :: S) := fun w hw => by
  rcases List.mem_cons.mp hw with e | e
  · rw [e]; exact hv
  · exact hs w e
theorem okS.mono {h h' : HS} {S : List V} (hs : okS h S) (hc : ∀ K, cn h K ≤ cn h' K) : okS h' S := fun v hv => (hs v hv).mono hc
theorem cvP_at {E : EV} {ad : Pn → Nat} {q : Pn} (h0 : ¬ q.1 = 0) (h7 : ¬ q.1 = 7) : cvP E ad q = .ref (ad q) := by unfold cvP; rw [if_neg h0, if_neg h7]
theorem ref_at {E : EV} {ad : Pn → Nat} {q : Pn} (h : 1048576 ≤ q.1) : cvP E ad q = .ref (ad q) := cvP_at (by omega) (by omega)
theorem okP8 {h : HS} {q : Pn} (hq : okP h q) (h8 : q.1 = 8) : q.2 < 27 := by
  rcases hq with e | ⟨e, -⟩ | ⟨e, z⟩ | ⟨e, -⟩ | e | e | e
  · omega
  · omega
  · exact z
  · omega
  · rw [e] at h8; simp at h8
  · rw [e] at h8; simp at h8
  · have := (kinds_ge _ e.1).1; omega
theorem okP9 {h : HS} {q : Pn} (hq : okP h q) (h9 : q.1 = 9) : q.2 < 27 := by
  rcases hq with e | ⟨e, -⟩ | ⟨e, -⟩ | ⟨e, z⟩ | e | e | e
  · omega
  · omega
  · omega
  · exact z
  · rw [e] at h9; simp at h9
  · rw [e] at h9; simp at h9
  · have := (kinds_ge _ e.1).1; omega
theorem okP10 {h : HS} {q : Pn} (hq : okP h q) (h10 : q.1 = 10) : q = (10, 0) := by
  rcases hq with e | ⟨e, -⟩ | ⟨e, -⟩ | ⟨e, z⟩ | e | e | e
  · omega
  · omega
  · omega
  · omega
  · exact e
  · rw [e] at h10; simp at h10
  · have := (kinds_ge _ e.1).1; omega
theorem okP11 {h : HS} {q : Pn} (hq : okP h q) (h11 : q.1 = 11) : q = (11, 0) := by
  rcases hq with e | ⟨e, -⟩ | ⟨e, -⟩ | ⟨e, z⟩ | e | e | e
  · omega
  · omega
  · omega
  · omega
  · rw [e] at h11; simp at h11
  · exact e
  · have := (kinds_ge _ e.1).1; omega
theorem LSx.new {E : EV} {ad ad' : Pn → Nat} {h : HS} {L : List V} {ls : Array Slot} (hL : LSx E ad L ls) (hok : okS h L) (ha : ∀ x, okP h x → ad' x = ad x) : LSx E ad' L ls := hL.moved (fun v hv _ => by
  rcases v with x | x | p | b
  · rfl
  · rfl
  · exact cvP_ad (Or.inr (ha p (hok _ hv)))
  · rfl)
theorem map_adn {E : EV} {ad ad' : Pn → Nat} {h : HS} {S : List V} (hok : okS h S) (ha : ∀ x, okP h x → ad' x = ad x) : S.map (cv E ad') = S.map (cv E ad) := List.map_congr_left fun v hv => by
  rcases v with x | x | p | b
  · rfl
  · rfl
  · exact cvP_ad (Or.inr (ha p (hok _ hv)))
  · rfl
def same0 (h h' : HS) : Prop := (∀ K, cn h' K = cn h K) ∧ nc h' = nc h ∧ ns h' = ns h ∧ scL h' = scL h ∧ ∀ i, scX h' i = scX h i
theorem Bd.same {R : Room} {cells slots : Nat} {h h' : HS} (hB : Bd R cells slots h) (hs : same0 h h') : Bd R cells slots h' := ⟨by rw [hs.2.1]; exact hB.1, by rw [hs.2.2.1]; exact hB.2⟩
theorem okS.same {h h' : HS} {S : List V} (hs : okS h S) (hc : same0 h h') : okS h' S := hs.mono (fun K => Nat.le_of_eq (hc.1 K).symm)
theorem wr_same {h h' : HS} {K j k t : Nat} {v : V} (hwr : wr h K j k t v = some h') : same0 h h' := by
  unfold wr at hwr
  rcases v with x | x | q | b
  · simp only at hwr
    split at hwr
    · cases hwr; exact ⟨fun _ => rfl, rfl, rfl, rfl, fun _ => rfl⟩
    · split at hwr
      · split at hwr
        · cases hwr; exact ⟨fun _ => rfl, rfl, rfl, rfl, fun _ => rfl⟩
        · cases hwr
      · cases hwr
  · simp only at hwr
    split at hwr
    · cases hwr; exact ⟨fun _ => rfl, rfl, rfl, rfl, fun _ => rfl⟩
    · cases hwr
  · simp only at hwr
    split at hwr
    · cases hwr; exact ⟨fun _ => rfl, rfl, rfl, rfl, fun _ => rfl⟩
    · cases hwr
  · cases hwr
theorem cat_sum {E : EV} {ad : Pn → Nat} (S : List V) : ((S.map (cv E ad)).map fun v => v.category).sum ≤ 2 * S.length := by
  induction S with
  | nil => simp
  | cons v S ih =>
    have := cat_le (E := E) (ad := ad) (v := v)
    simp only [List.map_cons, List.sum_cons, List.length_cons]
    omega
theorem site_ok : ∀ q ∈ siteT, q.2 ∈ kindsL := by
  have h : siteT.all (fun q => kindsL.contains q.2) = true := by decide +kernel
  intro q hq
  simpa using List.all_eq_true.mp h q hq
theorem rowsH_sc {K j1 K2 n2 : Nat} {h0 : HS} : ∀ i, scL (rowsH K j1 K2 n2 h0 i) = scL h0 ∧ ∀ k, scX (rowsH K j1 K2 n2 h0 i) k = scX h0 k := by
  intro i
  induction i with
  | zero => exact ⟨rfl, fun _ => rfl⟩
  | succ i ih => exact ih
theorem al2_sc {h : HS} {K n1 K2 n2 : Nat} : scL (al2 h K n1 K2 n2) = scL h ∧ ∀ k, scX (al2 h K n1 K2 n2) k = scX h k := by
  rw [al2_eq]
  exact rowsH_sc n1
theorem elok_obj {K : Nat} (hv : elob K = true) : ∃ C, arrTy K = .object C := by
  unfold elob at hv
  obtain ⟨q, hq, e⟩ := List.any_eq_true.mp hv
  obtain ⟨Ec, C, ⟨g1, -⟩, -⟩ := el_ok q hq
  have e : q.1 = K := by simpa using e
  exact ⟨Ec, by rw [← e]; exact g1⟩
section SH
variable {p : Program} {l : Launch} {e : Env} {R : Room} {s : State} {m : MethodId} {args : Array Value} {below : List Frame} {meth : Method} {c : Code} {H : Heap} {locs : List Loc} {cells slots : Nat} {Q : State → Prop}
variable {pc : Nat} {ls : Array Slot} {E : EV} {A : Nat → Prop} {ad ad0 : Pn → Nat} {Ls : Nat} {xs : Nat → Int32} {h h' : HS} {M len : Nat} {i : Instr} {L S S' : List V}
/-- the state of the abstract machine and of the real one -/
def St (E : EV) (A : Nat → Prop) (ad0 : Pn → Nat) (Ls : Nat) (xs : Nat → Int32) (R : Room) (s : State) (H : Heap) (locs : List Loc) (cells slots : Nat) (ad : Pn → Nat) (L S : List V) (h : HS) (ls : Array Slot) : Prop :=
  Wd E A ad0 s H locs ad h ∧ Bd R cells slots h ∧ LSx E ad L ls ∧ okS h L ∧ okS h S ∧ scL h = Ls ∧ ∀ i, scX h i = xs i
theorem St.same {H1 : Heap} {locs1 : List Loc} (hs : St E A ad0 Ls xs R s H locs cells slots ad L S h ls) (hW : Wd E A ad0 s H1 locs1 ad h') (h0 : same0 h h') (hS : okS h' S') : St E A ad0 Ls xs R s H1 locs1 cells slots ad L S' h' ls :=
  ⟨hW, hs.2.1.same h0, hs.2.2.1, hs.2.2.2.1.same h0, hS, h0.2.2.2.1.trans hs.2.2.2.2.2.1, fun i => (h0.2.2.2.2 i).trans (hs.2.2.2.2.2.2 i)⟩
theorem St.pop (hs : St E A ad0 Ls xs R s H locs cells slots ad L S h ls) (hS : okS h S') : St E A ad0 Ls xs R s H locs cells slots ad L S' h ls :=
  ⟨hs.1, hs.2.1, hs.2.2.1, hs.2.2.2.1, hS, hs.2.2.2.2.2⟩
theorem same0.rf : same0 h h := ⟨fun _ => rfl, rfl, rfl, rfl, fun _ => rfl⟩
set_option maxHeartbeats 4000000 in
theorem snd_heap (hM : Mx p s m args meth c M) (hC : Cx E A ad0 Ls xs s) (hd : decode (mC M) pc = .ok (i, len)) (hl : lenOK i len = true) (hh : heapI M pc i S h = some (S', h')) (hs : St E A ad0 Ls xs R s H locs cells slots ad L S h ls) (hfr : 1 ≤ R.frames) (hlo : 40 ≤ R.locals) (hLn : L.length = mloc M)
    (kk : ∀ H1 locs1 cells1 slots1 ad1, St E A ad0 Ls xs R s H1 locs1 cells1 slots1 ad1 L S' h' ls → (∀ x, okP h x → ad1 x = ad x) → (∀ K, cn h K ≤ cn h' K) → W p l e R s m args below meth c H1 locs1 cells1 slots1 Q (F0 m (pc + len) ls (S'.map (cv E ad1)))) : W p l e R s m args below meth c H locs cells slots Q (F0 m pc ls (S.map (cv E ad))) := by
  obtain ⟨hx, hb, hown, hts, hnm, hml⟩ := hM
  obtain ⟨c1, c2, c3, c4, c5, c6, c7, c8, c9, c10, c11, hE, hA⟩ := hC
  have hs0 := hs
  obtain ⟨hW, hB, hLS, okL, okSt, sc1, sc2⟩ := hs
  cases i with
  | getfield idx =>
    obtain rfl : 3 = len := of_decide_eq_true hl
    simp only [heapI] at hh
    split at hh
    · rename_i q S0 K k t hf
      have hF : FldP (mown M) idx K k t := fld_ok _ (mem_of_lookup hf)
      have hq : okP h q := okSt.head
      split at hh
      · rename_i hk
        split at hh
        · rename_i h3
          cases hh
          have h8 : q.1 = 8 := by
            rcases hF with ⟨-, z, -⟩ | ⟨z, -⟩ | ⟨-, -, -, -, -, -, z, -⟩
            · exact hk.trans z
            · omega
            · exact absurd h3 z
          have hj := okP8 hq h8
          have e1 : cv E ad (.inr (.inr (.inl q))) = .ref (ad (8, q.2)) := by
            show cvP E ad q = _
            rw [cvP_at (by omega) (by omega), show q = (8, q.2) from by rw [← h8]]
          rw [List.map_cons, e1]
          refine w_strf (t := t) hx hb hts hown c6 hF (Or.inl h3) hj hW hd ?_
          rw [if_pos h3]
          exact kk _ _ _ _ _ (hs0.pop (okS.cons (Or.inr (Or.inr (Or.inr (Or.inl ⟨rfl, hj⟩)))) okSt.tail)) (fun _ _ => rfl) (fun _ => Nat.le_refl _)
        · rename_i h3
          split at hh
          · rename_i h4
            cases hh
            have h8 : q.1 = 8 := by
              rcases hF with ⟨z, -⟩ | ⟨-, z, -⟩ | ⟨-, -, -, -, -, -, -, z, -⟩
              · omega
              · exact hk.trans z
              · exact absurd h4 z
            have hj := okP8 hq h8
            have e1 : cv E ad (.inr (.inr (.inl q))) = .ref (ad (8, q.2)) := by
              show cvP E ad q = _
              rw [cvP_at (by omega) (by omega), show q = (8, q.2) from by rw [← h8]]
            rw [List.map_cons, e1]
            refine w_strf (t := t) hx hb hts hown c6 hF (Or.inr h4) hj hW hd ?_
            rw [if_neg h3]
            exact kk _ _ _ _ _ (hs0.pop (okS.cons trivial okSt.tail)) (fun _ _ => rfl) (fun _ => Nat.le_refl _)
          · rename_i h4
            cases hh
            have hge : 1048576 ≤ q.1 := by
              rcases hF with ⟨z, -⟩ | ⟨z, -⟩ | ⟨C, T, N, hci, -⟩
              · exact absurd z h3
              · exact absurd z h4
              · have := (cinf_ok _ hci).2.2.2.2.2.2.1
                rw [hk]; exact this
            have hin : inK h q := hq.in hge
            have e1 : cv E ad (.inr (.inr (.inl q))) = .ref (ad (K, q.2)) := by
              show cvP E ad q = _
              rw [ref_at hge, show q = (K, q.2) from by rw [← hk]]
            have hin' : inK h (K, q.2) := by rw [← hk]; exact hin
            rw [List.map_cons, e1]
            refine w_get hx hb hts c1 hown hF ⟨h3, h4⟩ hW hin' hd ?_
            refine kk _ _ _ _ _ (hs0.pop (okS.cons ?_ okSt.tail)) (fun _ _ => rfl) (fun _ => Nat.le_refl _)
            unfold rd
            split
            · trivial
            · split
              · exact hW.in hin' k
              · trivial
      · cases hh
    · cases hh
  | putfield idx =>
    obtain rfl : 3 = len := of_decide_eq_true hl
    simp only [heapI] at hh
    split at hh
    · rename_i v q S0 K k t hf
      have hF : FldP (mown M) idx K k t := fld_ok _ (mem_of_lookup hf)
      have hq : okP h q := okSt.tail.head
      split at hh
      · rename_i hk
        split at hh
        · rename_i h1 hwr
          cases hh
          have hge : 1048576 ≤ q.1 := by
            rcases hF with ⟨z, -⟩ | ⟨z, -⟩ | ⟨C, T, N, hci, -⟩
            · subst z; rcases v with x | x | y | y <;> simp [wr] at hwr
            · subst z; rcases v with x | x | y | y <;> simp [wr] at hwr
            · have := (cinf_ok _ hci).2.2.2.2.2.2.1
              rw [hk.1]; exact this
          have e1 : cv E ad (.inr (.inr (.inl q))) = .ref (ad (K, q.2)) := by
            show cvP E ad q = _
            rw [ref_at hge, show q = (K, q.2) from by rw [← hk.1]]
          have hin' : inK h (K, q.2) := by rw [← hk.1]; exact hq.in hge
          rw [List.map_cons, List.map_cons, e1]
          refine w_put hx hb hts c1 hown hnm hF hk.2 hE hW hin' hwr okSt.head hd ?_
          intro H1 locs1 hW1
          exact kk _ _ _ _ _ (hs0.same hW1 (wr_same hwr) (okSt.tail.tail.same (wr_same hwr))) (fun _ _ => rfl) (fun K => Nat.le_of_eq ((wr_same hwr).1 K).symm)
        · cases hh
      · cases hh
    · cases hh
  | getstatic idx =>
    obtain rfl : 3 = len := of_decide_eq_true hl
    simp only [heapI] at hh
    split at hh
    · rename_i v hv
      cases hh
      have hP : StP (mown M) idx v := stat_ok _ (mem_of_lookup hv)
      refine w_stat hx hb hts c1 hown c7 hP hW hd ?_
      obtain ⟨C, n, d, hm, -⟩ := hP
      exact kk _ _ _ _ _ (hs0.pop (okS.cons (stN_ok _ hm) okSt)) (fun _ _ => rfl) (fun _ => Nat.le_refl _)
    · cases hh
  | ldc idx =>
    obtain rfl : 2 = len := of_decide_eq_true hl
    simp only [heapI] at hh
    split at hh
    · rename_i v hv
      have hP : LdcP (mown M) idx v := ldc_ok _ (mem_of_lookup hv)
      split at hh
      rotate_left
      · cases hh
      rename_i hcat
      cases hh
      have hnl : ∀ x, v ≠ vL x := fun x z => by rw [z] at hcat; cases hcat
      refine w_ldc hx hb hts hown c6 hP hW hd (Or.inl ⟨rfl, rfl, hnl⟩) ?_
      refine kk _ _ _ _ _ (hs0.pop (okS.cons ?_ okSt)) (fun _ _ => rfl) (fun _ => Nat.le_refl _)
      rcases hP with ⟨x, rfl, -⟩ | ⟨x, rfl, -⟩ | ⟨jj, hj, rfl, -⟩
      · trivial
      · trivial
      · exact Or.inr (Or.inr (Or.inl ⟨rfl, hj⟩))
    · cases hh
  | ldc_w idx =>
    obtain rfl : 3 = len := of_decide_eq_true hl
    simp only [heapI] at hh
    split at hh
    · rename_i v hv
      have hP : LdcP (mown M) idx v := ldc_ok _ (mem_of_lookup hv)
      split at hh
      rotate_left
      · cases hh
      rename_i hcat
      cases hh
      have hnl : ∀ x, v ≠ vL x := fun x z => by rw [z] at hcat; cases hcat
      refine w_ldc hx hb hts hown c6 hP hW hd (Or.inr (Or.inl ⟨rfl, rfl, hnl⟩)) ?_
      refine kk _ _ _ _ _ (hs0.pop (okS.cons ?_ okSt)) (fun _ _ => rfl) (fun _ => Nat.le_refl _)
      rcases hP with ⟨x, rfl, -⟩ | ⟨x, rfl, -⟩ | ⟨jj, hj, rfl, -⟩
      · trivial
      · trivial
      · exact Or.inr (Or.inr (Or.inl ⟨rfl, hj⟩))
    · cases hh
  | ldc2_w idx =>
    obtain rfl : 3 = len := of_decide_eq_true hl
    simp only [heapI] at hh
    split at hh
    · rename_i v hv
      have hP : LdcP (mown M) idx v := ldc_ok _ (mem_of_lookup hv)
      split at hh
      · cases hh
      rename_i hcat
      cases hh
      have hnl : ∃ x, v = vL x := by
        rcases hP with ⟨x, rfl, -⟩ | ⟨x, rfl, -⟩ | ⟨jj, hj, rfl, -⟩
        · exact absurd rfl hcat
        · exact ⟨x, rfl⟩
        · exact absurd rfl hcat
      refine w_ldc hx hb hts hown c6 hP hW hd (Or.inr (Or.inr ⟨rfl, rfl, hnl⟩)) ?_
      refine kk _ _ _ _ _ (hs0.pop (okS.cons ?_ okSt)) (fun _ _ => rfl) (fun _ => Nat.le_refl _)
      rcases hP with ⟨x, rfl, -⟩ | ⟨x, rfl, -⟩ | ⟨jj, hj, rfl, -⟩
      · trivial
      · trivial
      · exact Or.inr (Or.inr (Or.inl ⟨rfl, hj⟩))
    · cases hh
  | new idx =>
    obtain rfl : 3 = len := of_decide_eq_true hl
    simp only [heapI] at hh
    split at hh
    · rename_i K n hv
      have hP : NewP (mown M) idx K n := new_ok _ (mem_of_lookup hv)
      split at hh
      · rename_i hc
        cases hh
        refine w_new hx hb hts hown hA hP hW hB hc.1 hc.2 hd ?_
        intro q H1 hW1
        obtain ⟨C, T, hci, -⟩ := hP
        have hKk : K ∈ kindsL := (cinf_ok _ hci).2.2.2.2.2.1
        have hK1 := (kinds_ge K hKk).1
        have ha : ∀ x, okP h x → adN ad (K, cn h K) q x = ad x := fun x hx => adN_ne (okP_ne hK1 hx)
        have := kk H1 locs (cells + 1) (slots + n) (adN ad (K, cn h K) q) ⟨hW1, Bd_al hB hc.1 hc.2, hLS.new okL ha, okL.mono (cn_al_le h K n), okS.cons (Or.inr (Or.inr (Or.inr (Or.inr (Or.inr (Or.inr ⟨hKk, by show cn h K < cn (al h K n) K; rw [cn_al, if_pos rfl]; omega⟩)))))) (okSt.mono (cn_al_le h K n)), sc1, sc2⟩ ha (cn_al_le h K _)
        rw [List.map_cons, map_adn okSt ha] at this
        have e1 : cv E (adN ad (K, cn h K) q) (vR (K, cn h K)) = .ref q := by
          show cvP E _ _ = _
          rw [ref_at hK1, adN_eq]
        rw [e1] at this
        exact this
      · cases hh
    · cases hh
  | newarray ty =>
    obtain rfl : 2 = len := of_decide_eq_true hl
    simp only [heapI] at hh
    split at hh
    · rename_i n S0 K hv
      split at hh
      · rename_i hc
        cases hh
        obtain ⟨rfl, h2, h3, h4⟩ := hc
        have hKk : K ∈ kindsL := site_ok _ (mem_of_lookup hv)
        have hK1 := (kinds_ge K hKk).1
        rw [List.map_cons]
        refine w_newa hx hb hts hA hKk hW hB h3 h4 h2 hd ?_
        intro q H1 hW1
        have ha : ∀ x, okP h x → adN ad (K, cn h K) q x = ad x := fun x hx => adN_ne (okP_ne hK1 hx)
        have := kk H1 locs (cells + 1) (slots + klen K) (adN ad (K, cn h K) q) ⟨hW1, Bd_al hB h3 h4, hLS.new okL ha, okL.mono (cn_al_le h K _), okS.cons (Or.inr (Or.inr (Or.inr (Or.inr (Or.inr (Or.inr ⟨hKk, by show cn h K < cn (al h K (klen K)) K; rw [cn_al, if_pos rfl]; omega⟩)))))) (okSt.tail.mono (cn_al_le h K _)), sc1, sc2⟩ ha (cn_al_le h K _)
        rw [List.map_cons, map_adn okSt.tail ha] at this
        have e1 : cv E (adN ad (K, cn h K) q) (vR (K, cn h K)) = .ref q := by
          show cvP E _ _ = _
          rw [ref_at hK1, adN_eq]
        rw [e1] at this
        exact this
      · cases hh
    · cases hh
  | anewarray idx =>
    obtain rfl : 3 = len := of_decide_eq_true hl
    simp only [heapI] at hh
    split at hh
    · rename_i n S0 idx' K hv
      split at hh
      · rename_i hc
        cases hh
        obtain ⟨rfl, rfl, h3, h4⟩ := hc
        have hP : AnP M idx K := an_ok _ (mem_of_lookup hv)
        rw [List.map_cons]
        refine w_newq hx hb hts hown c3 hA hP hW hB h3 h4 hd ?_
        obtain ⟨C, ⟨-, -, hKk⟩, -, -⟩ := hP
        have hK1 := (kinds_ge K hKk).1
        intro q H1 hW1
        have ha : ∀ x, okP h x → adN ad (K, cn h K) q x = ad x := fun x hx => adN_ne (okP_ne hK1 hx)
        have := kk H1 locs (cells + 1) (slots + klen K) (adN ad (K, cn h K) q) ⟨hW1, Bd_al hB h3 h4, hLS.new okL ha, okL.mono (cn_al_le h K _), okS.cons (Or.inr (Or.inr (Or.inr (Or.inr (Or.inr (Or.inr ⟨hKk, by show cn h K < cn (al h K (klen K)) K; rw [cn_al, if_pos rfl]; omega⟩)))))) (okSt.tail.mono (cn_al_le h K _)), sc1, sc2⟩ ha (cn_al_le h K _)
        rw [List.map_cons, map_adn okSt.tail ha] at this
        have e1 : cv E (adN ad (K, cn h K) q) (vR (K, cn h K)) = .ref q := by
          show cvP E _ _ = _
          rw [ref_at hK1, adN_eq]
        rw [e1] at this
        exact this
      · cases hh
    · cases hh
  | multianewarray idx dm =>
    obtain rfl : 4 = len := of_decide_eq_true hl
    have hdm : dm = 2 := by
      rcases dm with _ | _ | _ | d3
      · cases (show (none : Option (List V × HS)) = some (S', h') from hh)
      · cases (show (none : Option (List V × HS)) = some (S', h') from hh)
      · rfl
      · cases (show (none : Option (List V × HS)) = some (S', h') from hh)
    subst hdm
    simp only [heapI] at hh
    split at hh
    · rename_i m2 n S0 idx' K K2 hv
      split at hh
      · rename_i hc
        cases hh
        obtain ⟨rfl, rfl, rfl, h3, h4⟩ := hc
        have hP : S2P M idx K K2 := s2_ok _ (mem_of_lookup hv)
        rw [List.map_cons, List.map_cons]
        refine w_multi hx hb hts hown hA c8 hP hW hB h3 h4 hd ?_
        obtain ⟨ty, ⟨-, -, -, -, hKk, -⟩, -⟩ := hP
        have hK1 := (kinds_ge K hKk).1
        intro q H1 locs1 ad1 hW1 hB1 hcn hin had ha
        have sc : scL (al2 h K (klen K) K2 (klen K2)) = scL h ∧ ∀ i, scX (al2 h K (klen K) K2 (klen K2)) i = scX h i := al2_sc
        have := kk H1 locs1 _ _ ad1 ⟨hW1, hB1, hLS.new okL ha, okL.mono hcn, okS.cons (Or.inr (Or.inr (Or.inr (Or.inr (Or.inr (Or.inr hin)))))) (okSt.tail.tail.mono hcn), sc.1.trans sc1, fun i => (sc.2 i).trans (sc2 i)⟩ ha hcn
        rw [List.map_cons, map_adn okSt.tail.tail ha] at this
        have e1 : cv E ad1 (vR (K, cn h K)) = .ref q := by
          show cvP E _ _ = _
          rw [ref_at hK1, had]
        rw [e1] at this
        exact this
      · cases hh
    · cases hh
  | arraylength =>
    obtain rfl : 1 = len := of_decide_eq_true hl
    simp only [heapI] at hh
    split at hh
    · rename_i q S0
      split at hh
      · rename_i n hn
        cases hh
        have hq : okP h q := okSt.head
        have k1 := kk H locs cells slots ad (hs0.pop (okS.cons (v := vI (nI n)) trivial okSt.tail)) (fun _ _ => rfl) (fun _ => Nat.le_refl _)
        rw [List.map_cons]
        unfold aLen at hn
        split at hn
        · rename_i h10
          obtain rfl := okP10 hq h10
          cases hn
          have e1 : cv E ad (.inr (.inr (.inl (10, 0)))) = .ref (ad0 (10, 0)) := by
            show cvP E ad _ = _
            rw [cvP_at (by decide) (by decide), hW.low _ (by decide)]
          rw [e1]
          rw [sc1] at k1
          exact va_slen hx hb c10 c11.1 c11.2 hW.S hd k1
        · split at hn
          · rename_i h9
            cases hn
            have hj := okP9 hq h9
            have e1 : cv E ad (.inr (.inr (.inl q))) = .ref (ad0 (9, q.2)) := by
              show cvP E ad q = _
              rw [cvP_at (by omega) (by omega), hW.low _ (by omega), show q = (9, q.2) from by rw [← h9]]
            rw [e1]
            exact va_tlen hx hb (c6 q.2 hj).2.2.1 hW.S rfl hd k1
          · split at hn
            · rename_i h11
              obtain rfl := okP11 hq h11
              cases hn
              have e1 : cv E ad (.inr (.inr (.inl (11, 0)))) = .ref (ad0 (11, 0)) := by
                show cvP E ad _ = _
                rw [cvP_at (by decide) (by decide), hW.low _ (by decide)]
              rw [e1]
              exact va_tlen hx hb c9 hW.S rfl hd k1
            · split at hn
              · rename_i hg
                cases hn
                have e1 : cv E ad (.inr (.inr (.inl q))) = .ref (ad (q.1, q.2)) := ref_at hg.1
                rw [e1]
                exact w_len (K := q.1) (j := q.2) hx hb hW (hq.in hg.1) (by omega) hd k1
              · cases hn
      · cases hh
    · cases hh
  | iaload =>
    obtain rfl : 1 = len := of_decide_eq_true hl
    simp only [heapI] at hh
    split at hh
    · rename_i ix q S0
      split at hh
      · rename_i x hn
        cases hh
        have hq : okP h q := okSt.tail.head
        have k1 := kk H locs cells slots ad (hs0.pop (okS.cons (v := vI x) trivial okSt.tail.tail)) (fun _ _ => rfl) (fun _ => Nat.le_refl _)
        rw [List.map_cons, List.map_cons]
        unfold ialI at hn
        split at hn
        · cases hn
        · rename_i n hlen
          split at hn
          · cases hn
          · rename_i hin
            unfold aLen at hlen
            split at hn
            · rename_i h10
              obtain rfl := okP10 hq h10
              cases hn
              cases hlen
              have e1 : cv E ad (.inr (.inr (.inl (10, 0)))) = .ref (ad0 (10, 0)) := by
                show cvP E ad _ = _
                rw [cvP_at (by decide) (by decide), hW.low _ (by decide)]
              rw [e1]
              rw [sc1] at hin
              rw [sc2] at k1
              exact va_sld hx hb c10 c11.1 c11.2 hW.S hin hd k1
            · rename_i h10
              split at hn
              · rename_i h11
                obtain rfl := okP11 hq h11
                cases hn
                cases hlen
                have e1 : cv E ad (.inr (.inr (.inl (11, 0)))) = .ref (ad0 (11, 0)) := by
                  show cvP E ad _ = _
                  rw [cvP_at (by decide) (by decide), hW.low _ (by decide)]
                rw [e1]
                exact va_ti hx hb c9 hW.S hin rfl hd k1
              · rename_i h11
                split at hn
                · rename_i hg
                  cases hn
                  rw [if_neg h10, if_neg (by omega), if_neg h11, if_pos ⟨hg.2, by omega, by omega⟩] at hlen
                  cases hlen
                  have e1 : cv E ad (.inr (.inr (.inl q))) = .ref (ad (q.1, q.2)) := ref_at hg.2
                  rw [e1]
                  exact w_ald (K := q.1) (j := q.2) hx hb hE hW (hq.in hg.2) hin (Or.inl ⟨hg.1, rfl, rfl⟩) hd k1
                · cases hn
      · cases hh
    · cases hh
  | baload =>
    obtain rfl : 1 = len := of_decide_eq_true hl
    simp only [heapI] at hh
    split at hh
    · rename_i ix q S0
      split at hh
      · rename_i x hn
        cases hh
        have hq : okP h q := okSt.tail.head
        have k1 := kk H locs cells slots ad (hs0.pop (okS.cons (v := vI x) trivial okSt.tail.tail)) (fun _ _ => rfl) (fun _ => Nat.le_refl _)
        rw [List.map_cons, List.map_cons]
        unfold balI at hn
        split at hn
        · cases hn
        · rename_i n hlen
          split at hn
          · cases hn
          · rename_i hin
            unfold aLen at hlen
            split at hn
            · rename_i h9
              cases hn
              rw [if_neg (by omega), if_pos h9] at hlen
              cases hlen
              have hj := okP9 hq h9
              have e1 : cv E ad (.inr (.inr (.inl q))) = .ref (ad0 (9, q.2)) := by
                show cvP E ad q = _
                rw [cvP_at (by omega) (by omega), hW.low _ (by omega), show q = (9, q.2) from by rw [← h9]]
              rw [e1]
              exact va_tb hx hb (c6 q.2 hj).2.2.1 hW.S hin rfl hd k1
            · rename_i h9
              split at hn
              · rename_i hg
                cases hn
                rw [if_neg (by omega), if_neg h9, if_neg (by omega), if_pos ⟨hg.2, by omega, by omega⟩] at hlen
                cases hlen
                have e1 : cv E ad (.inr (.inr (.inl q))) = .ref (ad (q.1, q.2)) := ref_at hg.2
                rw [e1]
                rcases hg.1 with z | z
                · exact w_ald (K := q.1) (j := q.2) hx hb hE hW (hq.in hg.2) hin (Or.inr (Or.inl ⟨z, rfl, rfl⟩)) hd k1
                · exact w_ald (K := q.1) (j := q.2) hx hb hE hW (hq.in hg.2) hin (Or.inr (Or.inr (Or.inl ⟨z, rfl, rfl⟩))) hd k1
              · cases hn
      · cases hh
    · cases hh
  | laload =>
    obtain rfl : 1 = len := of_decide_eq_true hl
    simp only [heapI] at hh
    split at hh
    · rename_i ix q S0
      split at hh
      · rename_i ho
        cases hh
        obtain ⟨g1, g2, g3⟩ := of_decide_eq_true ho
        have hq : okP h q := okSt.tail.head
        have k1 := kk H locs cells slots ad (hs0.pop (okS.cons (v := vL (gL h q.1 q.2 ix.toNatClampNeg)) trivial okSt.tail.tail)) (fun _ _ => rfl) (fun _ => Nat.le_refl _)
        rw [List.map_cons, List.map_cons]
        have e1 : cv E ad (.inr (.inr (.inl q))) = .ref (ad (q.1, q.2)) := ref_at g1
        rw [e1]
        exact w_ald (K := q.1) (j := q.2) hx hb hE hW (hq.in g1) g3 (Or.inr (Or.inr (Or.inr (Or.inl ⟨g2, rfl, rfl⟩)))) hd k1
      · cases hh
    · cases hh
  | aaload =>
    obtain rfl : 1 = len := of_decide_eq_true hl
    simp only [heapI] at hh
    split at hh
    · rename_i ix q S0
      split at hh
      · rename_i ho
        cases hh
        obtain ⟨g1, g2, g3⟩ := of_decide_eq_true ho
        have hq : okP h q := okSt.tail.head
        have k1 := kk H locs cells slots ad (hs0.pop (okS.cons (v := vR (gR h q.1 q.2 ix.toNatClampNeg)) (hW.in (hq.in g1) _) okSt.tail.tail)) (fun _ _ => rfl) (fun _ => Nat.le_refl _)
        rw [List.map_cons, List.map_cons]
        have e1 : cv E ad (.inr (.inr (.inl q))) = .ref (ad (q.1, q.2)) := ref_at g1
        rw [e1]
        exact w_ald (K := q.1) (j := q.2) hx hb hE hW (hq.in g1) g3 (Or.inr (Or.inr (Or.inr (Or.inr ⟨g2, rfl, rfl⟩)))) hd k1
      · cases hh
    · cases hh
  | iastore =>
    obtain rfl : 1 = len := of_decide_eq_true hl
    simp only [heapI] at hh
    split at hh
    · rename_i x ix q S0
      split at hh
      · rename_i ho
        cases hh
        obtain ⟨g1, g2, g3⟩ := of_decide_eq_true ho
        have hq : okP h q := okSt.tail.tail.head
        rw [List.map_cons, List.map_cons, List.map_cons]
        have e1 : cv E ad (.inr (.inr (.inl q))) = .ref (ad (q.1, q.2)) := ref_at g1
        rw [e1]
        refine w_ast (K := q.1) (j := q.2) hx hb hW (hq.in g1) g3 (Or.inl ⟨g2, rfl⟩) hd ?_
        intro H1 locs1 hW1
        exact kk _ _ _ _ _ (hs0.same hW1 same0.rf (okSt.tail.tail.tail)) (fun _ _ => rfl) (fun _ => Nat.le_refl _)
      · cases hh
    · cases hh
  | bastore =>
    obtain rfl : 1 = len := of_decide_eq_true hl
    simp only [heapI] at hh
    split at hh
    · rename_i x ix q S0
      have hq : okP h q := okSt.tail.tail.head
      rw [List.map_cons, List.map_cons, List.map_cons]
      split at hh
      · rename_i ho
        cases hh
        obtain ⟨g1, g2, g3⟩ := of_decide_eq_true ho.1
        have e1 : cv E ad (.inr (.inr (.inl q))) = .ref (ad (q.1, q.2)) := ref_at g1
        rw [e1]
        refine w_ast (K := q.1) (j := q.2) hx hb hW (hq.in g1) g3 (Or.inr (Or.inl ⟨g2, rfl, ho.2⟩)) hd ?_
        intro H1 locs1 hW1
        exact kk _ _ _ _ _ (hs0.same hW1 same0.rf (okSt.tail.tail.tail)) (fun _ _ => rfl) (fun _ => Nat.le_refl _)
      · split at hh
        · rename_i ho
          cases hh
          obtain ⟨g1, g2, g3⟩ := of_decide_eq_true ho.1
          have e1 : cv E ad (.inr (.inr (.inl q))) = .ref (ad (q.1, q.2)) := ref_at g1
          rw [e1]
          refine w_ast (K := q.1) (j := q.2) hx hb hW (hq.in g1) g3 (Or.inr (Or.inr ⟨g2, rfl, ho.2⟩)) hd ?_
          intro H1 locs1 hW1
          exact kk _ _ _ _ _ (hs0.same hW1 same0.rf (okSt.tail.tail.tail)) (fun _ _ => rfl) (fun _ => Nat.le_refl _)
        · cases hh
    · cases hh
  | lastore =>
    obtain rfl : 1 = len := of_decide_eq_true hl
    simp only [heapI] at hh
    split at hh
    · rename_i x ix q S0
      split at hh
      · rename_i ho
        cases hh
        obtain ⟨g1, g2, g3⟩ := of_decide_eq_true ho
        have hq : okP h q := okSt.tail.tail.head
        rw [List.map_cons, List.map_cons, List.map_cons]
        have e1 : cv E ad (.inr (.inr (.inl q))) = .ref (ad (q.1, q.2)) := ref_at g1
        rw [e1]
        refine w_last (K := q.1) (j := q.2) hx hb hW (hq.in g1) g3 g2 hd ?_
        intro H1 locs1 hW1
        exact kk _ _ _ _ _ (hs0.same hW1 same0.rf (okSt.tail.tail.tail)) (fun _ _ => rfl) (fun _ => Nat.le_refl _)
      · cases hh
    · cases hh
  | aastore =>
    obtain rfl : 1 = len := of_decide_eq_true hl
    simp only [heapI] at hh
    split at hh
    · rename_i v ix q S0
      split at hh
      · rename_i ho
        cases hh
        obtain ⟨g1, g2, g3⟩ := of_decide_eq_true ho.1
        have hq : okP h q := okSt.tail.tail.head
        rw [List.map_cons, List.map_cons, List.map_cons]
        have e1 : cv E ad (.inr (.inr (.inl q))) = .ref (ad (q.1, q.2)) := ref_at g1
        rw [e1]
        refine w_aast (K := q.1) (j := q.2) (q := v) hx hb hE c5 c6 hW (hq.in g1) g3 g2 (elok_obj ho.2.2) ho.2.1 okSt.head hd ?_
        intro H1 locs1 hW1
        exact kk _ _ _ _ _ (hs0.same hW1 same0.rf (okSt.tail.tail.tail)) (fun _ _ => rfl) (fun _ => Nat.le_refl _)
      · cases hh
    · cases hh
  | invokespecial idx =>
    obtain rfl : 3 = len := of_decide_eq_true hl
    simp only [heapI] at hh
    split at hh
    · rename_i q S0 a1 a2 a3 hv
      split at hh
      · rename_i hc
        cases hh
        have hP : InvP (mown M) idx a1 a2 4 a3 := inv_ok _ (mem_of_lookup hv)
        have hlk : Cond.methodLink (cnm (mown M)) idx Lib.objectInit ∈ lw_all := by
          rcases hP with ⟨z, -⟩ | ⟨z, -⟩ | ⟨z, -⟩ | ⟨z, -⟩ | ⟨-, z⟩ | ⟨z, -⟩
          · omega
          · omega
          · omega
          · omega
          · exact z
          · omega
        rw [List.map_cons]
        have e1 : cv E ad (.inr (.inr (.inl q))) = .ref (ad q) := ref_at hc.1
        rw [e1]
        refine W.objInit hx hb hown (hts _ hlk) (hts _ q143) (hts _ q144) rfl ?_ rfl hd hfr ?_ ?_
        · show ls.size = c.maxLocals
          rw [hml, hLS.1, hLn]
        · have := cat_sum (E := E) (ad := ad) S'
          show 2 * 0 + _ + 12 ≤ _
          omega
        · exact kk _ _ _ _ _ (hs0.pop okSt.tail) (fun _ _ => rfl) (fun _ => Nat.le_refl _)
      · cases hh
    · cases hh
  | invokestatic idx =>
    obtain rfl : 3 = len := of_decide_eq_true hl
    simp only [heapI] at hh
    split at hh
    · rename_i n b q a q2 S0 a1 a2 a3 hv
      split at hh
      · rename_i hc
        cases hh
        obtain ⟨g1, g2, g3, g4, g5, g6, g7, g8, g9, g10, g11⟩ := hc
        have hP : InvP (mown M) idx a1 a2 5 a3 := inv_ok _ (mem_of_lookup hv)
        have hlk : Cond.methodLink (cnm (mown M)) idx ⟨"java/lang/System", "arraycopy", "(Ljava/lang/Object;ILjava/lang/Object;II)V"⟩ ∈ lw_all := by
          rcases hP with ⟨z, -⟩ | ⟨z, -⟩ | ⟨z, -⟩ | ⟨z, -⟩ | ⟨z, -⟩ | ⟨-, z⟩
          · omega
          · omega
          · omega
          · omega
          · omega
          · exact z
        rw [List.map_cons, List.map_cons, List.map_cons, List.map_cons, List.map_cons]
        have e1 : cv E ad (.inr (.inr (.inl q))) = .ref (ad (q.1, q.2)) := ref_at g3
        have e2 : cv E ad (.inr (.inr (.inl q2))) = .ref (ad (q2.1, q2.2)) := ref_at g1
        rw [e1, e2]
        have := cat_sum (E := E) (ad := ad) S'
        refine w_copy (K := q2.1) (j := q2.2) (K2 := q.1) (j2 := q.2) hx hb ?_ hts hown hlk hW (okP.in (p := q2) okSt.tail.tail.tail.tail.head g1) (okP.in (p := q) okSt.tail.tail.head g3) g2 g4 g5 g7 g8 g9 g10 g11 hfr (by omega) hd ?_
        · rw [hml, hLS.1, hLn]
        · intro H1 locs1 hW1
          exact kk _ _ _ _ _ (hs0.same hW1 same0.rf (okSt.tail.tail.tail.tail.tail)) (fun _ _ => rfl) (fun _ => Nat.le_refl _)
      · cases hh
    · cases hh
  | _ =>
    have hh : (none : Option (List V × HS)) = some (S', h') := hh
    cases hh
end SH
