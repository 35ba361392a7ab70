/-! the abstract machine and the real one: jumps -/
theorem tg_some {pc t : Nat} {off : Int} (h : tg pc off = some t) : (pc : Int) + off = (t : Int) := by
  unfold tg at h
  split at h
  · next h0 =>
    have := Option.some.inj h
    omega
  · cases h
section JU
variable {p : Program} {l : Launch} {e : Env} {R : Room} {s : State} {m : MethodId} {args : Array Value} {below : List Frame} {meth : Method} {c : Code} {H : Heap} {locs : List Loc} {cells slots : Nat} {Q : State → Prop}
variable {cc : ByteArray} {pc pc' : Nat} {ls : Array Slot} {E : EV} {ad : Pn → Nat} {i : Instr} {len : Nat} {S S' : List V}
set_option maxHeartbeats 4000000 in
theorem snd_jmp (hexec : p.tables.exec = Jvm.exec) (hb : c.code = cc) (hE : opqOK E) (hd : decode cc pc = .ok (i, len)) (hl : lenOK i len = true) (hj : jmpI i pc S = some (pc', S'))
    (k : W p l e R s m args below meth c H locs cells slots Q (F0 m pc' ls (S'.map (cv E ad)))) : W p l e R s m args below meth c H locs cells slots Q (F0 m pc ls (S.map (cv E ad))) := by
  cases i with
  | goto off =>
    obtain rfl : 3 = len := of_decide_eq_true hl
    simp only [jmpI] at hj
    split at hj
    · next t ht =>
      cases hj
      exact lv_goto hexec hb hd (tg_some ht) k
    · cases hj
  | ifCond co off =>
    obtain rfl : 3 = len := of_decide_eq_true hl
    simp only [jmpI] at hj
    split at hj
    · next x S0 t ht =>
      have ht := tg_some ht
      cases hj
      cases co with
      | eq => exact lv_if_eq hexec hb hd ht (fun q => by simpa [cmp0, q] using k) (fun q => by simpa [cmp0, q] using k)
      | ne => exact lv_if_ne hexec hb hd ht (fun q => by simpa [cmp0, q] using k) (fun q => by simpa [cmp0, q] using k)
      | lt => exact lv_if_lt hexec hb hd ht (fun q => by simpa [cmp0, q] using k) (fun q => by simpa [cmp0, q] using k)
      | ge => exact lv_if_ge hexec hb hd ht (fun q => by simpa [cmp0, q] using k) (fun q => by simpa [cmp0, q] using k)
      | gt => exact lv_if_gt hexec hb hd ht (fun q => by simpa [cmp0, q] using k) (fun q => by simpa [cmp0, q] using k)
      | le => exact lv_if_le hexec hb hd ht (fun q => by simpa [cmp0, q] using k) (fun q => by simpa [cmp0, q] using k)
    · cases hj
  | if_icmp co off =>
    obtain rfl : 3 = len := of_decide_eq_true hl
    simp only [jmpI] at hj
    split at hj
    · next y x S0 t ht =>
      have ht := tg_some ht
      cases hj
      cases co with
      | eq => exact lv_icmp_eq hexec hb hd ht (fun q => by simpa [cmpI, q] using k) (fun q => by simpa [cmpI, q] using k)
      | ne => exact lv_icmp_ne hexec hb hd ht (fun q => by simpa [cmpI, q] using k) (fun q => by simpa [cmpI, q] using k)
      | lt => exact lv_icmp_lt hexec hb hd ht (fun q => by simpa [cmpI, q] using k) (fun q => by simpa [cmpI, q] using k)
      | ge => exact lv_icmp_ge hexec hb hd ht (fun q => by simpa [cmpI, q] using k) (fun q => by simpa [cmpI, q] using k)
      | gt => exact lv_icmp_gt hexec hb hd ht (fun q => by simpa [cmpI, q] using k) (fun q => by simpa [cmpI, q] using k)
      | le => exact lv_icmp_le hexec hb hd ht (fun q => by simpa [cmpI, q] using k) (fun q => by simpa [cmpI, q] using k)
    · cases hj
  | ifnull off =>
    obtain rfl : 3 = len := of_decide_eq_true hl
    simp only [jmpI] at hj
    split at hj
    · next q S0 t ht =>
      have ht := tg_some ht
      split at hj
      · cases hj
      · next h7 =>
        cases hj
        by_cases h0 : q.1 = 0
        · rw [if_pos h0] at k
          have e1 : cv E ad (.inr (.inr (.inl q))) = .null := by simp [cv, cvP, h0]
          rw [List.map_cons, e1]
          exact lv_ifnullN hexec hb hd ht k
        · rw [if_neg h0] at k
          have e1 : cv E ad (.inr (.inr (.inl q))) = .ref (ad q) := by simp [cv, cvP, h0, h7]
          rw [List.map_cons, e1]
          exact lv_ifnull hexec hb hd k
    · cases hj
  | ifnonnull off =>
    obtain rfl : 3 = len := of_decide_eq_true hl
    simp only [jmpI] at hj
    split at hj
    · next q S0 t ht =>
      have ht := tg_some ht
      split at hj
      · cases hj
      · next h7 =>
        cases hj
        by_cases h0 : q.1 = 0
        · rw [if_pos h0] at k
          have e1 : cv E ad (.inr (.inr (.inl q))) = .null := by simp [cv, cvP, h0]
          rw [List.map_cons, e1]
          exact lv_ifnonnullN hexec hb hd k
        · rw [if_neg h0] at k
          have e1 : cv E ad (.inr (.inr (.inl q))) = .ref (ad q) := by simp [cv, cvP, h0, h7]
          rw [List.map_cons, e1]
          exact lv_ifnonnull hexec hb hd ht k
    · cases hj
  | tableswitch df lo hi offs =>
    simp only [jmpI] at hj
    split at hj
    · split at hj
      · next hout =>
        split at hj
        · next t ht =>
          cases hj
          exact lv_tableOut hexec hb hd hout (tg_some ht) k
        · cases hj
      · next hin =>
        split at hj
        · next off ho =>
          split at hj
          · next t ht =>
            cases hj
            exact lv_tableIn hexec hb hd (fun q => hin (Or.inl q)) (fun q => hin (Or.inr q)) ho (tg_some ht) k
          · cases hj
        · cases hj
    · cases hj
  | lookupswitch df ps =>
    simp only [jmpI] at hj
    split at hj
    · split at hj
      · next hall =>
        split at hj
        · next t ht =>
          cases hj
          exact lv_lookup hexec hb hd hall rfl (tg_some ht) k
        · cases hj
      · cases hj
    · cases hj
  | _ =>
    have hj : (none : Option (Nat × List V)) = some (pc', S') := hj
    cases hj
end JU
