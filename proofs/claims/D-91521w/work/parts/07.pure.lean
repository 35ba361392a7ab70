/-! the abstract machine and the real one: what leaves the memory -/
def lenI (i : Instr) : Option Nat := match i with
  | .iload _ => some 2
  | .lload _ => some 2
  | .aload _ => some 2
  | .istore _ => some 2
  | .lstore _ => some 2
  | .astore _ => some 2
  | .bipush _ => some 2
  | .sipush _ => some 3
  | .ldc _ => some 2
  | .ldc_w _ => some 3
  | .ldc2_w _ => some 3
  | .iinc _ _ => some 3
  | .goto _ => some 3
  | .ifCond _ _ => some 3
  | .if_icmp _ _ => some 3
  | .ifnull _ => some 3
  | .ifnonnull _ => some 3
  | .newarray _ => some 2
  | .anewarray _ => some 3
  | .multianewarray _ _ => some 4
  | .new _ => some 3
  | .getfield _ => some 3
  | .putfield _ => some 3
  | .getstatic _ => some 3
  | .invokestatic _ => some 3
  | .invokespecial _ => some 3
  | .invokevirtual _ => some 3
  | .tableswitch _ _ _ _ => none
  | .lookupswitch _ _ => none
  | _ => some 1
def lenOK (i : Instr) (len : Nat) : Bool := match lenI i with
  | some n => decide (n = len)
  | none => true
theorem ldI_some {L S L' S' : List V} {k : Nat} (h : ldI L k S = some (L', S')) : ∃ x, L[k]? = some (vI x) ∧ L' = L ∧ S' = vI x :: S := by
  unfold ldI at h
  split at h
  · next x e => cases h; exact ⟨x, e, rfl, rfl⟩
  · cases h
theorem ldL_some {L S L' S' : List V} {k : Nat} (h : ldL L k S = some (L', S')) : ∃ x, L[k]? = some (vL x) ∧ L' = L ∧ S' = vL x :: S := by
  unfold ldL at h
  split at h
  · next x e => cases h; exact ⟨x, e, rfl, rfl⟩
  · cases h
theorem ldR_some {L S L' S' : List V} {k : Nat} (h : ldR L k S = some (L', S')) : ∃ x, L[k]? = some (vR x) ∧ L' = L ∧ S' = vR x :: S := by
  unfold ldR at h
  split at h
  · next x e => cases h; exact ⟨x, e, rfl, rfl⟩
  · cases h
theorem soI_some {L S L' S' : List V} {k : Nat} (h : soI L k S = some (L', S')) : ∃ x, S = vI x :: S' ∧ k < L.length ∧ L' = st1 L k (vI x) := by
  unfold soI at h
  split at h
  · split at h
    · next hk => cases h; exact ⟨_, rfl, hk, rfl⟩
    · cases h
  · cases h
theorem soL_some {L S L' S' : List V} {k : Nat} (h : soL L k S = some (L', S')) : ∃ x, S = vL x :: S' ∧ k + 1 < L.length ∧ L' = st2 L k (vL x) := by
  unfold soL at h
  split at h
  · split at h
    · next hk => cases h; exact ⟨_, rfl, hk, rfl⟩
    · cases h
  · cases h
theorem soR_some {L S L' S' : List V} {k : Nat} (h : soR L k S = some (L', S')) : ∃ x, S = vR x :: S' ∧ k < L.length ∧ L' = st1 L k (vR x) := by
  unfold soR at h
  split at h
  · split at h
    · next hk => cases h; exact ⟨_, rfl, hk, rfl⟩
    · cases h
  · cases h
theorem binI_some {f : Int32 → Int32 → Int32} {L S L' S' : List V} (h : binI f L S = some (L', S')) : ∃ x y S0, S = vI y :: vI x :: S0 ∧ L' = L ∧ S' = vI (f x y) :: S0 := by
  unfold binI at h
  split at h
  · cases h; exact ⟨_, _, _, rfl, rfl, rfl⟩
  · cases h
theorem binL_some {f : Int64 → Int64 → Int64} {L S L' S' : List V} (h : binL f L S = some (L', S')) : ∃ x y S0, S = vL y :: vL x :: S0 ∧ L' = L ∧ S' = vL (f x y) :: S0 := by
  unfold binL at h
  split at h
  · cases h; exact ⟨_, _, _, rfl, rfl, rfl⟩
  · cases h
theorem divI_some {f : Int32 → Int32 → Int32} {L S L' S' : List V} (h : divI f L S = some (L', S')) : ∃ x y S0, S = vI y :: vI x :: S0 ∧ ¬ y = 0 ∧ L' = L ∧ S' = vI (f x y) :: S0 := by
  unfold divI at h
  split at h
  · split at h
    · cases h
    · next hy => cases h; exact ⟨_, _, _, rfl, hy, rfl, rfl⟩
  · cases h
theorem divL_some {f : Int64 → Int64 → Int64} {L S L' S' : List V} (h : divL f L S = some (L', S')) : ∃ x y S0, S = vL y :: vL x :: S0 ∧ ¬ y = 0 ∧ L' = L ∧ S' = vL (f x y) :: S0 := by
  unfold divL at h
  split at h
  · split at h
    · cases h
    · next hy => cases h; exact ⟨_, _, _, rfl, hy, rfl, rfl⟩
  · cases h
theorem unI_some {f : Int32 → Int32} {L S L' S' : List V} (h : unI f L S = some (L', S')) : ∃ x S0, S = vI x :: S0 ∧ L' = L ∧ S' = vI (f x) :: S0 := by
  unfold unI at h
  split at h
  · cases h; exact ⟨_, _, rfl, rfl, rfl⟩
  · cases h
theorem dup1_some {L S L' S' : List V} (h : dup1 L S = some (L', S')) : ∃ v S0, S = v :: S0 ∧ cat1 v = true ∧ L' = L ∧ S' = v :: v :: S0 := by
  unfold dup1 at h
  split at h
  · split at h
    · next hv => cases h; exact ⟨_, _, rfl, hv, rfl, rfl⟩
    · cases h
  · cases h
theorem pop1_some {L S L' S' : List V} (h : pop1 L S = some (L', S')) : ∃ v, S = v :: S' ∧ cat1 v = true ∧ L' = L := by
  unfold pop1 at h
  split at h
  · split at h
    · next hv => cases h; exact ⟨_, rfl, hv, rfl⟩
    · cases h
  · cases h
theorem dupB_some {L S L' S' : List V} (h : dupB L S = some (L', S')) : L' = L ∧ ((∃ x S0, S = vL x :: S0 ∧ S' = vL x :: vL x :: S0) ∨ ∃ v w S0, S = v :: w :: S0 ∧ cat1 v = true ∧ cat1 w = true ∧ S' = v :: w :: v :: w :: S0) := by
  unfold dupB at h
  split at h
  · cases h; exact ⟨rfl, Or.inl ⟨_, _, rfl, rfl⟩⟩
  · split at h
    · next hv =>
      cases h
      rw [Bool.and_eq_true] at hv
      exact ⟨rfl, Or.inr ⟨_, _, _, rfl, hv.1, hv.2, rfl⟩⟩
    · cases h
  · cases h
section PU
variable {p : Program} {l : Launch} {e : Env} {R : Room} {s : State} {m : MethodId} {args : Array Value} {below : List Frame} {meth : Method} {c : Code} {H : Heap} {locs : List Loc} {cells slots : Nat} {Q : State → Prop}
variable {cc : ByteArray} {pc : Nat} {ls : Array Slot} {E : EV} {ad : Pn → Nat} {i : Instr} {len : Nat} {L L' S S' : List V}
theorem W_aload_n (hexec : p.tables.exec = Jvm.exec) (hb : c.code = cc) {k : Fin 4} {v : Value} {rest : List Value} (hv : v = .null ∨ ∃ a, v = .ref a) (hdg : decode cc pc = .ok (.aload_n k, 1)) (hl : ls[(k : Nat)]? = some (.val v))
    (kk : W p l e R s m args below meth c H locs cells slots Q (F0 m (pc + 1) ls (v :: rest))) : W p l e R s m args below meth c H locs cells slots Q (F0 m pc ls rest) := by
  rcases hv with rfl | ⟨a, rfl⟩
  · exact lv_aload_nN hexec hb hdg rfl hl kk
  · exact lv_aload_n hexec hb hdg rfl hl kk
theorem W_aload (hexec : p.tables.exec = Jvm.exec) (hb : c.code = cc) {k : Nat} {v : Value} {rest : List Value} (hv : v = .null ∨ ∃ a, v = .ref a) (hdg : decode cc pc = .ok (.aload k, 2)) (hl : ls[k]? = some (.val v))
    (kk : W p l e R s m args below meth c H locs cells slots Q (F0 m (pc + 2) ls (v :: rest))) : W p l e R s m args below meth c H locs cells slots Q (F0 m pc ls rest) := by
  rcases hv with rfl | ⟨a, rfl⟩
  · exact lv_aloadN hexec hb hdg hl kk
  · exact lv_aload hexec hb hdg hl kk
theorem W_astore_n (hexec : p.tables.exec = Jvm.exec) (hb : c.code = cc) {k : Fin 4} {nL : Nat} {v : Value} {lv lv' : List (Nat × Value)} {rest : List Value} (hv : v = .null ∨ ∃ a, v = .ref a) (hdg : decode cc pc = .ok (.astore_n k, 1)) (h : lv_has ls nL lv) (hn : (k : Nat) < nL) (hl : ((k : Nat), v) :: lv.filter (fun q => !(q.1 == (k : Nat)) && !(q.1 + 1 == (k : Nat) && q.2.category == 2)) = lv')
    (kk : ∀ ls' : Array Slot, lv_has ls' nL lv' → W p l e R s m args below meth c H locs cells slots Q (F0 m (pc + 1) ls' rest)) : W p l e R s m args below meth c H locs cells slots Q (F0 m pc ls (v :: rest)) := by
  rcases hv with rfl | ⟨a, rfl⟩
  · exact lv_astore_nN hexec hb hdg rfl h hn hl kk
  · exact lv_astore_n hexec hb hdg rfl h hn hl kk
theorem W_astore (hexec : p.tables.exec = Jvm.exec) (hb : c.code = cc) {k nL : Nat} {v : Value} {lv lv' : List (Nat × Value)} {rest : List Value} (hv : v = .null ∨ ∃ a, v = .ref a) (hdg : decode cc pc = .ok (.astore k, 2)) (h : lv_has ls nL lv) (hn : k < nL) (hl : (k, v) :: lv.filter (fun q => !(q.1 == k) && !(q.1 + 1 == k && q.2.category == 2)) = lv')
    (kk : ∀ ls' : Array Slot, lv_has ls' nL lv' → W p l e R s m args below meth c H locs cells slots Q (F0 m (pc + 2) ls' rest)) : W p l e R s m args below meth c H locs cells slots Q (F0 m pc ls (v :: rest)) := by
  rcases hv with rfl | ⟨a, rfl⟩
  · exact lv_astoreN hexec hb hdg h hn hl kk
  · exact lv_astore hexec hb hdg h hn hl kk
set_option maxHeartbeats 4000000 in
theorem snd_pure (hexec : p.tables.exec = Jvm.exec) (hb : c.code = cc) (hE : opqOK E) (hd : decode cc pc = .ok (i, len)) (hl : lenOK i len = true) (hp : pureI i L S = some (L', S')) (hL : LSx E ad L ls)
    (k : ∀ ls', LSx E ad L' ls' → W p l e R s m args below meth c H locs cells slots Q (F0 m (pc + len) ls' (S'.map (cv E ad)))) : W p l e R s m args below meth c H locs cells slots Q (F0 m pc ls (S.map (cv E ad))) := by
  cases i with
  | iconst n =>
    obtain rfl : 1 = len := of_decide_eq_true hl
    cases hp
    exact lv_iconst hexec hb hd rfl (k ls hL)
  | bipush n =>
    obtain rfl : 2 = len := of_decide_eq_true hl
    cases hp
    exact lv_bipush hexec hb hd rfl (k ls hL)
  | sipush n =>
    obtain rfl : 3 = len := of_decide_eq_true hl
    cases hp
    exact lv_sipush hexec hb hd rfl (k ls hL)
  | lconst n =>
    obtain rfl : 1 = len := of_decide_eq_true hl
    cases hp
    exact lv_lconst hexec hb hd rfl (k ls hL)
  | aconst_null =>
    obtain rfl : 1 = len := of_decide_eq_true hl
    cases hp
    exact lv_null hexec hb hd (k ls hL)
  | iload_n n =>
    obtain rfl : 1 = len := of_decide_eq_true hl
    obtain ⟨x, h1, rfl, rfl⟩ := ldI_some hp
    exact lv_iload_n hexec hb hd rfl (hL.2.2.2 _ _ h1 rfl) (k ls hL)
  | iload n =>
    obtain rfl : 2 = len := of_decide_eq_true hl
    obtain ⟨x, h1, rfl, rfl⟩ := ldI_some hp
    exact lv_iload hexec hb hd (hL.2.2.2 _ _ h1 rfl) (k ls hL)
  | lload_n n =>
    obtain rfl : 1 = len := of_decide_eq_true hl
    obtain ⟨x, h1, rfl, rfl⟩ := ldL_some hp
    exact lv_lload_n hexec hb hd rfl (hL.2.2.2 _ _ h1 rfl) (k ls hL)
  | lload n =>
    obtain rfl : 2 = len := of_decide_eq_true hl
    obtain ⟨x, h1, rfl, rfl⟩ := ldL_some hp
    exact lv_lload hexec hb hd (hL.2.2.2 _ _ h1 rfl) (k ls hL)
  | aload_n n =>
    obtain rfl : 1 = len := of_decide_eq_true hl
    obtain ⟨x, h1, rfl, rfl⟩ := ldR_some hp
    exact W_aload_n hexec hb (cvP_ref hE) hd (hL.2.2.2 _ _ h1 rfl) (k ls hL)
  | aload n =>
    obtain rfl : 2 = len := of_decide_eq_true hl
    obtain ⟨x, h1, rfl, rfl⟩ := ldR_some hp
    exact W_aload hexec hb (cvP_ref hE) hd (hL.2.2.2 _ _ h1 rfl) (k ls hL)
  | istore_n n =>
    obtain rfl : 1 = len := of_decide_eq_true hl
    obtain ⟨x, rfl, hk, rfl⟩ := soI_some hp
    exact lv_istore_n hexec hb hd rfl hL.has hk rfl (fun ls' h' => k ls' (LS_store1 (v := vI x) hE hL.2.2.1 hk rfl h'))
  | istore n =>
    obtain rfl : 2 = len := of_decide_eq_true hl
    obtain ⟨x, rfl, hk, rfl⟩ := soI_some hp
    exact lv_istore hexec hb hd hL.has hk rfl (fun ls' h' => k ls' (LS_store1 (v := vI x) hE hL.2.2.1 hk rfl h'))
  | lstore_n n =>
    obtain rfl : 1 = len := of_decide_eq_true hl
    obtain ⟨x, rfl, hk, rfl⟩ := soL_some hp
    exact lv_lstore_n hexec hb hd rfl hL.has hk rfl (fun ls' h' => k ls' (LS_store2 hE hL.2.2.1 hk h'))
  | lstore n =>
    obtain rfl : 2 = len := of_decide_eq_true hl
    obtain ⟨x, rfl, hk, rfl⟩ := soL_some hp
    exact lv_lstore hexec hb hd hL.has hk rfl (fun ls' h' => k ls' (LS_store2 hE hL.2.2.1 hk h'))
  | astore_n n =>
    obtain rfl : 1 = len := of_decide_eq_true hl
    obtain ⟨x, rfl, hk, rfl⟩ := soR_some hp
    exact W_astore_n hexec hb (cvP_ref hE) hd hL.has hk rfl (fun ls' h' => k ls' (LS_store1 (v := vR x) hE hL.2.2.1 hk rfl h'))
  | astore n =>
    obtain rfl : 2 = len := of_decide_eq_true hl
    obtain ⟨x, rfl, hk, rfl⟩ := soR_some hp
    exact W_astore hexec hb (cvP_ref hE) hd hL.has hk rfl (fun ls' h' => k ls' (LS_store1 (v := vR x) hE hL.2.2.1 hk rfl h'))
  | iinc n z =>
    obtain rfl : 3 = len := of_decide_eq_true hl
    have hp : (match L[n]? with
      | some (.inl x) => some (st1 L n (vI (x + Int32.ofInt z)), S)
      | _ => none) = some (L', S') := hp
    split at hp
    · next x hx =>
      cases hp
      have hk : n < L.length := (List.getElem?_eq_some_iff.mp hx).1
      obtain ⟨q, hq⟩ := List.getElem?_of_mem (mem_lvl (E := E) (ad := ad).mpr ⟨_, hx, rfl, rfl⟩)
      exact lv_iinc hexec hb hd hL.has (k := q) hq rfl hk rfl (fun ls' h' => k ls' (LS_store1 (v := vI (x + Int32.ofInt z)) hE hL.2.2.1 hk rfl h'))
    · cases hp
  | iadd =>
    obtain rfl : 1 = len := of_decide_eq_true hl
    obtain ⟨x, y, S0, rfl, rfl, rfl⟩ := binI_some hp
    exact lv_iadd hexec hb hd (k ls hL)
  | isub =>
    obtain rfl : 1 = len := of_decide_eq_true hl
    obtain ⟨x, y, S0, rfl, rfl, rfl⟩ := binI_some hp
    exact lv_isub hexec hb hd (k ls hL)
  | imul =>
    obtain rfl : 1 = len := of_decide_eq_true hl
    obtain ⟨x, y, S0, rfl, rfl, rfl⟩ := binI_some hp
    exact lv_imul hexec hb hd (k ls hL)
  | iand =>
    obtain rfl : 1 = len := of_decide_eq_true hl
    obtain ⟨x, y, S0, rfl, rfl, rfl⟩ := binI_some hp
    exact lv_iand hexec hb hd (k ls hL)
  | ior =>
    obtain rfl : 1 = len := of_decide_eq_true hl
    obtain ⟨x, y, S0, rfl, rfl, rfl⟩ := binI_some hp
    exact lv_ior hexec hb hd (k ls hL)
  | ishl =>
    obtain rfl : 1 = len := of_decide_eq_true hl
    obtain ⟨x, y, S0, rfl, rfl, rfl⟩ := binI_some hp
    exact lv_ishl hexec hb hd (k ls hL)
  | ishr =>
    obtain rfl : 1 = len := of_decide_eq_true hl
    obtain ⟨x, y, S0, rfl, rfl, rfl⟩ := binI_some hp
    exact lv_ishr hexec hb hd (k ls hL)
  | idiv =>
    obtain rfl : 1 = len := of_decide_eq_true hl
    obtain ⟨x, y, S0, rfl, hy, rfl, rfl⟩ := divI_some hp
    exact lv_idiv hexec hb hd hy (k ls hL)
  | irem =>
    obtain rfl : 1 = len := of_decide_eq_true hl
    obtain ⟨x, y, S0, rfl, hy, rfl, rfl⟩ := divI_some hp
    exact lv_irem hexec hb hd hy (k ls hL)
  | ineg =>
    obtain rfl : 1 = len := of_decide_eq_true hl
    obtain ⟨x, S0, rfl, rfl, rfl⟩ := unI_some hp
    exact lv_ineg hexec hb hd (k ls hL)
  | i2b =>
    obtain rfl : 1 = len := of_decide_eq_true hl
    obtain ⟨x, S0, rfl, rfl, rfl⟩ := unI_some hp
    exact lv_i2b hexec hb hd rfl (k ls hL)
  | i2c =>
    obtain rfl : 1 = len := of_decide_eq_true hl
    obtain ⟨x, S0, rfl, rfl, rfl⟩ := unI_some hp
    exact lv_i2c hexec hb hd rfl (k ls hL)
  | ladd =>
    obtain rfl : 1 = len := of_decide_eq_true hl
    obtain ⟨x, y, S0, rfl, rfl, rfl⟩ := binL_some hp
    exact lv_ladd hexec hb hd (k ls hL)
  | lsub =>
    obtain rfl : 1 = len := of_decide_eq_true hl
    obtain ⟨x, y, S0, rfl, rfl, rfl⟩ := binL_some hp
    exact lv_lsub hexec hb hd (k ls hL)
  | lmul =>
    obtain rfl : 1 = len := of_decide_eq_true hl
    obtain ⟨x, y, S0, rfl, rfl, rfl⟩ := binL_some hp
    exact lv_lmul hexec hb hd (k ls hL)
  | land =>
    obtain rfl : 1 = len := of_decide_eq_true hl
    obtain ⟨x, y, S0, rfl, rfl, rfl⟩ := binL_some hp
    exact lv_land hexec hb hd (k ls hL)
  | lor =>
    obtain rfl : 1 = len := of_decide_eq_true hl
    obtain ⟨x, y, S0, rfl, rfl, rfl⟩ := binL_some hp
    exact lv_lor hexec hb hd (k ls hL)
  | ldiv =>
    obtain rfl : 1 = len := of_decide_eq_true hl
    obtain ⟨x, y, S0, rfl, hy, rfl, rfl⟩ := divL_some hp
    exact lv_ldiv hexec hb hd hy (k ls hL)
  | lrem =>
    obtain rfl : 1 = len := of_decide_eq_true hl
    obtain ⟨x, y, S0, rfl, hy, rfl, rfl⟩ := divL_some hp
    exact lv_lrem hexec hb hd hy (k ls hL)
  | lneg =>
    obtain rfl : 1 = len := of_decide_eq_true hl
    simp only [pureI] at hp
    split at hp
    · cases hp; exact lv_lneg hexec hb hd (k ls hL)
    · cases hp
  | i2l =>
    obtain rfl : 1 = len := of_decide_eq_true hl
    simp only [pureI] at hp
    split at hp
    · cases hp; exact lv_i2l hexec hb hd rfl (k ls hL)
    · cases hp
  | l2i =>
    obtain rfl : 1 = len := of_decide_eq_true hl
    simp only [pureI] at hp
    split at hp
    · cases hp; exact lv_l2i hexec hb hd rfl (k ls hL)
    · cases hp
  | lcmp =>
    obtain rfl : 1 = len := of_decide_eq_true hl
    simp only [pureI] at hp
    split at hp
    · cases hp; exact W.lcmp hexec hb hd (k ls hL)
    · cases hp
  | dup =>
    obtain rfl : 1 = len := of_decide_eq_true hl
    obtain ⟨v, S0, rfl, hv, rfl, rfl⟩ := dup1_some hp
    exact lv_dup hexec hb hd (cat1_cv hE hv) (k ls hL)
  | pop =>
    obtain rfl : 1 = len := of_decide_eq_true hl
    obtain ⟨v, rfl, hv, rfl⟩ := pop1_some hp
    exact lv_pop hexec hb hd (cat1_cv hE hv) (k ls hL)
  | dup2 =>
    obtain rfl : 1 = len := of_decide_eq_true hl
    obtain ⟨rfl, h⟩ := dupB_some hp
    rcases h with ⟨x, S0, rfl, rfl⟩ | ⟨v, w, S0, rfl, hv, hw, rfl⟩
    · exact lv_dup2_2 hexec hb hd rfl (k ls hL)
    · exact lv_dup2_11 hexec hb hd (cat1_cv hE hv) (cat1_cv hE hw) (k ls hL)
  | _ =>
    have hp : (none : Option (List V × List V)) = some (L', S') := hp
    cases hp
end PU
