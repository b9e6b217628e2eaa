/-! THE MINI-MACHINE IS SOUND, 7: arrays -/
set_option maxRecDepth 100000
set_option maxHeartbeats 4000000
theorem xix {i n : Int} (h : 0 ≤ i ∧ i < n) (hn : n ≤ 65536) : (Int32.ofInt i).toNatClampNeg = i.toNat ∧ ¬ Int32.ofInt i < 0 := by
  have oi : xok (.inl i) := ⟨by omega, by omega⟩
  refine ⟨?_, fun q => ?_⟩
  · show (Int32.ofInt i).toInt.toNat = _
    rw [x32 oi]
  · have h1 := (xlt oi xok0).mp q
    omega
/-- an array as it stands in the heap -/
theorem xarr {s0 s : State} {D : va_G} {ta : Nat → ClassId} {h : XH} {H : Heap} {a : Int} {w : Bool} {e : Nat} {n : Int} (hR : XRel s0 D ta h H) (hW : s0.WarmedH s.vm) (ht : xty h a = some (w, e, some n)) : ∃ (b : Nat) (cell : Cell), a = (b : Int) + 1 ∧ H[b]? = some cell ∧ (w = true → s0.heap.size ≤ b) ∧ s.isArrayOf cell (xeT e) ∧ cell.vm ≠ .unknown ∧ 0 ≤ n ∧ n ≤ 65536 ∧ (n.toNat ≤ cell.slots.size ∧ cell.slots.size.toInt32 = Int32.ofInt n) ∧ (∀ j : Nat, (j : Int) < n → cell.slots[j]? = some (xev e (xar h a j)) ∧ xeok e (xar h a j)) ∧ (w = true → cell = arrV (ta e) n.toNat (fun j => xev e (xar h a j))) ∧ e < 8 := by
  obtain ⟨b, cell, e1, e2, e3, y1, y2, y3, y4, y5, y6, y7, y8⟩ := hR.2.2.2.1 a _ ht
  exact ⟨b, cell, e1, e2, e3, State.isArrayOf_alike hW.alike y1, y2, y3, y4, y5, y6, y7, y8⟩
theorem xarr_ld {s0 s : State} {D : va_G} {ta : Nat → ClassId} {h : XH} {H : Heap} {a i : Int} {w : Bool} {e : Nat} {n : Int} (hR : XRel s0 D ta h H) (hW : s0.WarmedH s.vm) (ht : xty h a = some (w, e, some n)) (hi : 0 ≤ i ∧ i < n) : ∃ (b : Nat) (cell : Cell), a = (b : Int) + 1 ∧ H[b]? = some cell ∧ s.isArrayOf cell (xeT e) ∧ cell.vm ≠ .unknown ∧ ¬ (Int32.ofInt i < 0 ∨ cell.slots.size ≤ (Int32.ofInt i).toNatClampNeg) ∧ cell.slots[(Int32.ofInt i).toNatClampNeg]? = some (xev e (xar h a i)) ∧ xeok e (xar h a i) := by
  obtain ⟨b, cell, e1, e2, -, y1, y2, y3, y4, y5, y6, -, -⟩ := xarr hR hW ht
  obtain ⟨i1, i2⟩ := xix hi y4
  obtain ⟨j, rfl⟩ := Int.eq_ofNat_of_zero_le hi.1
  obtain ⟨z1, z2⟩ := y6 j hi.2
  refine ⟨b, cell, e1, e2, y1, y2, ?_, ?_, z2⟩
  · rw [i1]
    have y5 := y5.1
    intro q
    rcases q with q | q
    · exact i2 q
    · omega
  · rw [i1]
    exact z1
theorem xarr_mk {s0 : State} {A0 : Array Value} {D : va_G} {ta : Nat → ClassId} {l : Launch} (G : XG s0 A0 D ta l) {h : XH} {z : Int} {w : Bool} {e : Nat} {n : Int} (he : e < 8) (h0 : 0 ≤ n) (hn : n ≤ 65536) (hv : ∀ j : Nat, (j : Int) < n → xeok e (xar h z j)) : XCell s0 D ta (w, e, some n) h z (arrV (ta e) n.toNat (fun j => xev e (xar h z j))) := by
  refine ⟨(G.2.2.1 e he).1 _ _, (fun q => by cases q), h0, hn, ⟨Nat.le_of_eq (arrV_size _ _ _).symm, (by
    rw [arrV_size]
    obtain ⟨k, rfl⟩ := Int.eq_ofNat_of_zero_le h0
    rfl)⟩, fun j hj => ⟨arrV_read _ _ (by omega), hv j hj⟩, fun _ => rfl, he⟩
theorem ok_iaload {s0 : State} {A0 : Array Value} {D : va_G} {ta : Nat → ClassId} {l : Launch} {M pc np : Nat} (d : decode (xbytes M) pc = .ok (.iaload, 1)) (hp : pc + 1 = np) : ActOK s0 A0 D ta l M pc (xaALdI 0 np) := by
  intro ls st h g pc' ls' st' h' ha hg
  subst hp
  unfold xaALdI at ha
  split at ha
  · next i a r =>
    cases ha
    refine ⟨Int.le_refl _, Int.le_refl _, ?_⟩
    intro p e R s m args below meth c G F hf hl Q H locs cells slots lsM C _ _ kw
    obtain ⟨w, n, ht, hi⟩ := hg
    obtain ⟨b, cell, e1, e2, y1, y2, y3, y4, y5⟩ := xarr_ld C.1 F.2.2.2.2.2.2.2.2.1 ht hi
    show W p l e R s m args below meth c H locs cells slots Q (F0 m pc lsM (xcv (.inl i) :: xrv a :: r.map xcv))
    rw [xrv_pos e1]
    exact W.iald F.1 F.2.1 e2 y1 y2 y3 y4 rfl rfl d (kw H locs cells slots lsM (xst_cf0 C (xokS_k y5 (xokS_c (xokS_c C.2.2.2.2).2).2)) rfl rfl)
  · cases ha
theorem ok_baload {s0 : State} {A0 : Array Value} {D : va_G} {ta : Nat → ClassId} {l : Launch} {M pc np : Nat} (d : decode (xbytes M) pc = .ok (.baload, 1)) (hp : pc + 1 = np) : ActOK s0 A0 D ta l M pc (xaALdI 1 np) := by
  intro ls st h g pc' ls' st' h' ha hg
  subst hp
  unfold xaALdI at ha
  split at ha
  · next i a r =>
    cases ha
    refine ⟨Int.le_refl _, Int.le_refl _, ?_⟩
    intro p e R s m args below meth c G F hf hl Q H locs cells slots lsM C _ _ kw
    obtain ⟨w, n, ht, hi⟩ := hg
    obtain ⟨b, cell, e1, e2, y1, y2, y3, y4, y5⟩ := xarr_ld C.1 F.2.2.2.2.2.2.2.2.1 ht hi
    show W p l e R s m args below meth c H locs cells slots Q (F0 m pc lsM (xcv (.inl i) :: xrv a :: r.map xcv))
    rw [xrv_pos e1]
    exact W.bald F.1 F.2.1 e2 y1 y2 y3 y4 rfl rfl d (kw H locs cells slots lsM (xst_cf0 C (xokS_k (show _ ∧ _ from ⟨Int.le_trans (by decide) y5.1, Int.lt_of_le_of_lt y5.2 (by decide)⟩) (xokS_c (xokS_c C.2.2.2.2).2).2)) rfl rfl)
  · cases ha
theorem ok_caload {s0 : State} {A0 : Array Value} {D : va_G} {ta : Nat → ClassId} {l : Launch} {M pc np : Nat} (d : decode (xbytes M) pc = .ok (.caload, 1)) (hp : pc + 1 = np) : ActOK s0 A0 D ta l M pc (xaALdI 2 np) := by
  intro ls st h g pc' ls' st' h' ha hg
  subst hp
  unfold xaALdI at ha
  split at ha
  · next i a r =>
    cases ha
    refine ⟨Int.le_refl _, Int.le_refl _, ?_⟩
    intro p e R s m args below meth c G F hf hl Q H locs cells slots lsM C _ _ kw
    obtain ⟨w, n, ht, hi⟩ := hg
    obtain ⟨b, cell, e1, e2, y1, y2, y3, y4, y5⟩ := xarr_ld C.1 F.2.2.2.2.2.2.2.2.1 ht hi
    show W p l e R s m args below meth c H locs cells slots Q (F0 m pc lsM (xcv (.inl i) :: xrv a :: r.map xcv))
    rw [xrv_pos e1]
    exact W.cald F.1 F.2.1 e2 y1 y2 y3 y4 rfl rfl d (kw H locs cells slots lsM (xst_cf0 C (xokS_k (show _ ∧ _ from ⟨Int.le_trans (by decide) y5.1, Int.lt_of_le_of_lt y5.2 (by decide)⟩) (xokS_c (xokS_c C.2.2.2.2).2).2)) rfl rfl)
  · cases ha
theorem ok_laload {s0 : State} {A0 : Array Value} {D : va_G} {ta : Nat → ClassId} {l : Launch} {M pc np : Nat} (d : decode (xbytes M) pc = .ok (.laload, 1)) (hp : pc + 1 = np) : ActOK s0 A0 D ta l M pc (xaALdJ np) := by
  intro ls st h g pc' ls' st' h' ha hg
  subst hp
  unfold xaALdJ at ha
  split at ha
  · next i a r =>
    cases ha
    refine ⟨Int.le_refl _, Int.le_refl _, ?_⟩
    intro p e R s m args below meth c G F hf hl Q H locs cells slots lsM C _ _ kw
    obtain ⟨w, n, ht, hi⟩ := hg
    obtain ⟨b, cell, e1, e2, y1, y2, y3, y4, y5⟩ := xarr_ld C.1 F.2.2.2.2.2.2.2.2.1 ht hi
    show W p l e R s m args below meth c H locs cells slots Q (F0 m pc lsM (xcv (.inl i) :: xrv a :: r.map xcv))
    rw [xrv_pos e1]
    exact W.lald F.1 F.2.1 e2 y1 y2 y3 y4 rfl rfl d (kw H locs cells slots lsM (xst_cf0 C (xokS_k y5 (xokS_c (xokS_c C.2.2.2.2).2).2)) rfl rfl)
  · cases ha
theorem xe4 {e : Nat} (h4 : 4 ≤ e) (h8 : e < 8) : (∀ z, xev e z = xrv z) ∧ (∀ z, xeok e z ↔ 0 ≤ z) ∧ ∃ C : String, xeT e = .object C := by
  match e, h4, h8 with
  | 4, _, _ => exact ⟨fun _ => rfl, fun _ => Iff.rfl, _, rfl⟩
  | 5, _, _ => exact ⟨fun _ => rfl, fun _ => Iff.rfl, _, rfl⟩
  | 6, _, _ => exact ⟨fun _ => rfl, fun _ => Iff.rfl, _, rfl⟩
  | 7, _, _ => exact ⟨fun _ => rfl, fun _ => Iff.rfl, _, rfl⟩
theorem ok_aaload {s0 : State} {A0 : Array Value} {D : va_G} {ta : Nat → ClassId} {l : Launch} {M pc np : Nat} (d : decode (xbytes M) pc = .ok (.aaload, 1)) (hp : pc + 1 = np) : ActOK s0 A0 D ta l M pc (xaALdA np) := by
  intro ls st h g pc' ls' st' h' ha hg
  subst hp
  unfold xaALdA at ha
  split at ha
  · next i a r =>
    cases ha
    refine ⟨Int.le_refl _, Int.le_refl _, ?_⟩
    intro p e R s m args below meth c G F hf hl Q H locs cells slots lsM C _ _ kw
    obtain ⟨w, e', n, ht, h4, hi⟩ := hg
    obtain ⟨b, cell, e1, e2, y1, y2, y3, y4, y5⟩ := xarr_ld C.1 F.2.2.2.2.2.2.2.2.1 ht hi
    obtain ⟨-, -, -, -, -, -, -, -, -, -, -, -, h8⟩ := xarr C.1 F.2.2.2.2.2.2.2.2.1 ht
    obtain ⟨z1, z2, CC, z3⟩ := xe4 h4 h8
    show W p l e R s m args below meth c H locs cells slots Q (F0 m pc lsM (xcv (.inl i) :: xrv a :: r.map xcv))
    rw [xrv_pos e1]
    rw [z1] at y4
    rw [z2] at y5
    exact W.aald F.1 F.2.1 e2 y1 (by rw [z3]; rfl) y2 y3 y4 rfl rfl d (kw H locs cells slots lsM (xst_cf0 C (xokS_k y5 (xokS_c (xokS_c C.2.2.2.2).2).2)) rfl rfl)
  · cases ha
/-- an element is written -/
theorem xput_A {s0 s : State} {A0 : Array Value} {D : va_G} {ta : Nat → ClassId} {l : Launch} (G : XG s0 A0 D ta l) {h : XH} {H H' : Heap} {a i z : Int} {e : Nat} {n : Int} (hR : XRel s0 D ta h H) (hW : s0.WarmedH s.vm) (ht : xty h a = some (true, e, some n)) (hi : 0 ≤ i ∧ i < n) (hz : xeok e z) {b : Nat} {cell : Cell} (hb : a = (b : Int) + 1) (hcell : H[b]? = some cell) (f3 : H'[b]? = some (cell.setSlot (Int32.ofInt i).toNatClampNeg (xev e z))) (f1 : H'.size = H.size) (f2 : ∀ q : Nat, q ≠ b → H'[q]? = H[q]?) : XRel s0 D ta (xputa h a i z) H' := by
  obtain ⟨b', cell', e1, e2, e3, y1, y2, y3, y4, y5, y6, y7, y8⟩ := xarr hR hW ht
  have hbb : b' = b := by omega
  subst hbb
  rw [hcell] at e2
  cases e2
  obtain ⟨i1, i2⟩ := xix hi y4
  have hval : ∀ j : Nat, xar (xputa h a i z) a j = if (j : Int) = i then z else xar h a j := by
    intro j
    show (if a = a ∧ (j : Int) = i then z else xar h a j) = _
    by_cases q : (j : Int) = i
    · rw [if_pos ⟨rfl, q⟩, if_pos q]
    · rw [if_neg (fun w => q w.2), if_neg q]
  refine hR.upd ht hb (e3 rfl) rfl rfl rfl (fun z' hz' => ⟨rfl, ?_⟩) f1 f2 f3 ?_
  · funext i'
    show (if z' = a ∧ i' = i then z else xar h z' i') = _
    rw [if_neg (fun w => hz' w.1)]
  · have e4 : cell.setSlot (Int32.ofInt i).toNatClampNeg (xev e z) = arrV (ta e) n.toNat (fun j => xev e (xar (xputa h a i z) a j)) := by
      rw [y7 rfl, arrV_store, i1]
      congr 1
      funext j
      rw [hval j]
      unfold updV
      by_cases q : j = i.toNat
      · rw [if_pos q, if_pos (by omega)]
      · rw [if_neg q, if_neg (by omega)]
    rw [e4]
    refine xarr_mk G y8 y3 y4 fun j hj => ?_
    rw [hval j]
    split
    · exact hz
    · exact (y6 j hj).2
theorem ok_iastore {s0 : State} {A0 : Array Value} {D : va_G} {ta : Nat → ClassId} {l : Launch} {M pc np : Nat} (d : decode (xbytes M) pc = .ok (.iastore, 1)) (hp : pc + 1 = np) : ActOK s0 A0 D ta l M pc (xaAStI np) := by
  intro ls st h g pc' ls' st' h' ha hg
  subst hp
  unfold xaAStI at ha
  split at ha
  · next z i a r =>
    cases ha
    refine ⟨Int.le_refl _, Int.le_refl _, ?_⟩
    intro p e R s m args below meth c G F hf hl Q H locs cells slots lsM C _ _ kw
    obtain ⟨n, ht, hi⟩ := hg
    obtain ⟨oz, o2⟩ := xokS_c C.2.2.2.2
    obtain ⟨b, cell, e1, e2, y1, y2, y3, y4, y5⟩ := xarr_ld C.1 F.2.2.2.2.2.2.2.2.1 ht hi
    obtain ⟨b', cell', e1', e2', eb, -⟩ := xarr C.1 F.2.2.2.2.2.2.2.2.1 ht
    have hbb : b' = b := by omega
    subst hbb
    show W p l e R s m args below meth c H locs cells slots Q (F0 m pc lsM (xcv (.inl z) :: xcv (.inl i) :: xrv a :: st'.map xcv))
    rw [xrv_pos e1]
    refine W.iast F.1 F.2.1 e2 y1 y2 y3 rfl rfl d fun H' f3 f1 f2 => ?_
    refine kw H' _ cells slots lsM (xst_cfH C (xokS_c (xokS_c o2).2).2 (xput_A (z := z) G C.1 F.2.2.2.2.2.2.2.2.1 ht hi oz e1 e2 (by exact f3) f1 f2) (fun q hq => ?_)) rfl rfl
    rcases List.mem_append.mp hq with w | w
    · exact C.2.1 q w
    · rw [List.mem_singleton.mp w]
      exact eb rfl
  · cases ha
theorem ok_bastore {s0 : State} {A0 : Array Value} {D : va_G} {ta : Nat → ClassId} {l : Launch} {M pc np : Nat} (d : decode (xbytes M) pc = .ok (.bastore, 1)) (hp : pc + 1 = np) : ActOK s0 A0 D ta l M pc (xaAStB np) := by
  intro ls st h g pc' ls' st' h' ha hg
  subst hp
  unfold xaAStB at ha
  split at ha
  · next z i a r =>
    cases ha
    refine ⟨Int.le_refl _, Int.le_refl _, ?_⟩
    intro p e R s m args below meth c G F hf hl Q H locs cells slots lsM C _ _ kw
    obtain ⟨n, ht, hi⟩ := hg.1
    obtain ⟨oz, o2⟩ := xokS_c C.2.2.2.2
    obtain ⟨b, cell, e1, e2, y1, y2, y3, y4, y5⟩ := xarr_ld C.1 F.2.2.2.2.2.2.2.2.1 ht hi
    obtain ⟨b', cell', e1', e2', eb, -⟩ := xarr C.1 F.2.2.2.2.2.2.2.2.1 ht
    have hbb : b' = b := by omega
    subst hbb
    show W p l e R s m args below meth c H locs cells slots Q (F0 m pc lsM (xcv (.inl z) :: xcv (.inl i) :: xrv a :: st'.map xcv))
    rw [xrv_pos e1]
    refine W.bast F.1 F.2.1 e2 y1 y2 y3 rfl rfl d fun H' f3 f1 f2 => ?_
    refine kw H' _ cells slots lsM (xst_cfH C (xokS_c (xokS_c o2).2).2 (xput_A (z := z) G C.1 F.2.2.2.2.2.2.2.2.1 ht hi hg.2 e1 e2 (by rw [show xev 1 z = narrow .byte (.int (Int32.ofInt z)) from (by show Value.int _ = Value.int _; rw [(x8 hg.2).1])]; exact f3) f1 f2) (fun q hq => ?_)) rfl rfl
    rcases List.mem_append.mp hq with w | w
    · exact C.2.1 q w
    · rw [List.mem_singleton.mp w]
      exact eb rfl
  · cases ha
theorem ok_castore {s0 : State} {A0 : Array Value} {D : va_G} {ta : Nat → ClassId} {l : Launch} {M pc np : Nat} (d : decode (xbytes M) pc = .ok (.castore, 1)) (hp : pc + 1 = np) : ActOK s0 A0 D ta l M pc (xaAStC np) := by
  intro ls st h g pc' ls' st' h' ha hg
  subst hp
  unfold xaAStC at ha
  split at ha
  · next z i a r =>
    cases ha
    refine ⟨Int.le_refl _, Int.le_refl _, ?_⟩
    intro p e R s m args below meth c G F hf hl Q H locs cells slots lsM C _ _ kw
    obtain ⟨n, ht, hi⟩ := hg.1
    obtain ⟨oz, o2⟩ := xokS_c C.2.2.2.2
    obtain ⟨b, cell, e1, e2, y1, y2, y3, y4, y5⟩ := xarr_ld C.1 F.2.2.2.2.2.2.2.2.1 ht hi
    obtain ⟨b', cell', e1', e2', eb, -⟩ := xarr C.1 F.2.2.2.2.2.2.2.2.1 ht
    have hbb : b' = b := by omega
    subst hbb
    show W p l e R s m args below meth c H locs cells slots Q (F0 m pc lsM (xcv (.inl z) :: xcv (.inl i) :: xrv a :: st'.map xcv))
    rw [xrv_pos e1]
    refine W.cast F.1 F.2.1 e2 y1 y2 y3 rfl rfl d fun H' f3 f1 f2 => ?_
    refine kw H' _ cells slots lsM (xst_cfH C (xokS_c (xokS_c o2).2).2 (xput_A (z := z) G C.1 F.2.2.2.2.2.2.2.2.1 ht hi hg.2 e1 e2 (by rw [show xev 2 z = narrow .char (.int (Int32.ofInt z)) from (by show Value.int _ = Value.int _; rw [← lg_i2c_nf, lg_i2c_word (by rw [x32 oz]; exact hg.2.1) (by rw [x32 oz]; exact Int.lt_of_le_of_lt hg.2.2 (by decide))])]; exact f3) f1 f2) (fun q hq => ?_)) rfl rfl
    rcases List.mem_append.mp hq with w | w
    · exact C.2.1 q w
    · rw [List.mem_singleton.mp w]
      exact eb rfl
  · cases ha
theorem ok_lastore {s0 : State} {A0 : Array Value} {D : va_G} {ta : Nat → ClassId} {l : Launch} {M pc np : Nat} (d : decode (xbytes M) pc = .ok (.lastore, 1)) (hp : pc + 1 = np) : ActOK s0 A0 D ta l M pc (xaAStJ np) := by
  intro ls st h g pc' ls' st' h' ha hg
  subst hp
  unfold xaAStJ at ha
  split at ha
  · next z i a r =>
    cases ha
    refine ⟨Int.le_refl _, Int.le_refl _, ?_⟩
    intro p e R s m args below meth c G F hf hl Q H locs cells slots lsM C _ _ kw
    obtain ⟨n, ht, hi⟩ := hg
    obtain ⟨oz, o2⟩ := xokS_c C.2.2.2.2
    obtain ⟨b, cell, e1, e2, y1, y2, y3, y4, y5⟩ := xarr_ld C.1 F.2.2.2.2.2.2.2.2.1 ht hi
    obtain ⟨b', cell', e1', e2', eb, -⟩ := xarr C.1 F.2.2.2.2.2.2.2.2.1 ht
    have hbb : b' = b := by omega
    subst hbb
    show W p l e R s m args below meth c H locs cells slots Q (F0 m pc lsM (xcv (.inr (.inl z)) :: xcv (.inl i) :: xrv a :: st'.map xcv))
    rw [xrv_pos e1]
    refine W.last F.1 F.2.1 e2 y1 y2 y3 rfl rfl d fun H' f3 f1 f2 => ?_
    refine kw H' _ cells slots lsM (xst_cfH C (xokS_c (xokS_c o2).2).2 (xput_A (z := z) G C.1 F.2.2.2.2.2.2.2.2.1 ht hi oz e1 e2 (by exact f3) f1 f2) (fun q hq => ?_)) rfl rfl
    rcases List.mem_append.mp hq with w | w
    · exact C.2.1 q w
    · rw [List.mem_singleton.mp w]
      exact eb rfl
  · cases ha
/-- an object of class c may stand in an array of references of code e -/
theorem xasg_as {s0 s : State} {A0 : Array Value} {D : va_G} {ta : Nat → ClassId} {l : Launch} (G : XG s0 A0 D ta l) (hW : s0.WarmedH s.vm) {e c : Nat} (h : xasg e c = true) : 4 ≤ e ∧ e < 8 ∧ ∀ (C : String) (comp : ClassId), xeT e = .object C → s.vm.findClass C = some comp → s.vm.assignable (D.1 c) comp = true := by
  have he : e < 8 := by
    rcases Nat.lt_or_ge e 8 with q | q
    · exact q
    · exfalso
      have : xnth [] xasgT e = [] := by
        obtain ⟨k, rfl⟩ : ∃ k, e = k + 8 := ⟨e - 8, by omega⟩
        rfl
      unfold xasg at h
      rw [this] at h
      cases h
  have ex : ∀ (k : Nat) (q : vw_C) (C : String) (comp : ClassId), xcl[k]? = some q → q.1 = C → s.vm.findClass C = some comp → s.vm.assignable (D.1 k) comp = true := by
    intro k q C comp hq hC hf
    have h1 := (xkn G hW hq).2
    subst hC
    rw [h1.1] at hf
    cases hf
    exact va_assign h1
  have cs : ∀ (k : Nat) (q : vw_C) (C : String) (comp : ClassId), xcl[k]? = some q → Cond.castable q.1 C ∈ lw_tbl → s.vm.findClass C = some comp → s.vm.assignable (D.1 k) comp = true := by
    intro k q C comp hq hC hf
    have h1 := (xkn G hW hq).2
    have h2 : va_Nw (.castable q.1 C) s := va_Nw.warmC hW (va_Nw.of rfl (G.1 _ hC))
    obtain ⟨c0, t0, f1, f2, f3⟩ := Cond.castable_spec (va_Nw.use (A := #[]) rfl h2)
    rw [h1.1] at f1
    cases f1
    rw [hf] at f2
    cases f2
    exact f3
  match e, he, h with
  | 4, _, h =>
    refine ⟨by decide, by decide, fun C comp hC hf => ?_⟩
    cases hC
    have h5 : 3 = c := by simpa [xasg, xasgT, xnth] using h
    have : c = 3 := h5.symm
    subst this
    exact ex 3 _ _ comp rfl rfl hf
  | 5, _, h =>
    refine ⟨by decide, by decide, fun C comp hC hf => ?_⟩
    cases hC
    have h5 : 11 = c := by simpa [xasg, xasgT, xnth] using h
    have : c = 11 := h5.symm
    subst this
    exact ex 11 _ _ comp rfl rfl hf
  | 6, _, h =>
    refine ⟨by decide, by decide, fun C comp hC hf => ?_⟩
    cases hC
    have h5 : 12 = c := by simpa [xasg, xasgT, xnth] using h
    have : c = 12 := h5.symm
    subst this
    exact ex 12 _ _ comp rfl rfl hf
  | 7, _, h =>
    refine ⟨by decide, by decide, fun C comp hC hf => ?_⟩
    cases hC
    have : c = 13 ∨ c = 14 := by
      simp only [xasg, xasgT, xnth, List.any_cons, List.any_nil, Bool.or_false, Bool.or_eq_true] at h
      rcases h with h | h
      · exact Or.inl (Nat.eq_of_beq_eq_true h).symm
      · exact Or.inr (Nat.eq_of_beq_eq_true h).symm
    rcases this with rfl | rfl
    · exact cs 13 _ _ comp rfl q2188 hf
    · exact cs 14 _ _ comp rfl q2189 hf
theorem ok_aastore {s0 : State} {A0 : Array Value} {D : va_G} {ta : Nat → ClassId} {l : Launch} {M pc np : Nat} (d : decode (xbytes M) pc = .ok (.aastore, 1)) (hp : pc + 1 = np) : ActOK s0 A0 D ta l M pc (xaAStA np) := by
  intro ls st h g pc' ls' st' h' ha hg
  subst hp
  unfold xaAStA at ha
  split at ha
  · next v i a r =>
    cases ha
    refine ⟨Int.le_refl _, Int.le_refl _, ?_⟩
    intro p e R s m args below meth c G F hf hl Q H locs cells slots lsM C _ _ kw
    obtain ⟨e', n, w, cv, ht, h0, hn, hv, has⟩ := hg
    have hi : 0 ≤ i ∧ i < n := ⟨h0, hn⟩
    have hW := F.2.2.2.2.2.2.2.2.1
    obtain ⟨h4, h8, hasg⟩ := xasg_as G hW has
    obtain ⟨oz, o2⟩ := xokS_c C.2.2.2.2
    obtain ⟨b, cell, e1, e2, y1, y2, y3, y4, y5⟩ := xarr_ld C.1 hW ht hi
    obtain ⟨b', cell', e1', e2', eb, x1, x2, x3, x4, x5, x6, x7, x8⟩ := xarr C.1 hW ht
    have hbb : b' = b := by omega
    subst hbb
    rw [e2] at e2'
    cases e2'
    obtain ⟨bv, cellv, v1, v2, -, w1, w2, w3, w4, w5, w6⟩ := C.1.2.2.2.1 v _ hv
    obtain ⟨z1, z2, CC, z3⟩ := xe4 h4 h8
    have hra := (G.2.2.1 e' h8).2.moved hW.alike
    rw [z3] at hra
    obtain ⟨kA, comp, k1, k2, k3, k4⟩ := hra
    obtain ⟨q, q1, q2, q3⟩ := xtab w5
    obtain ⟨kC, hkC, hkind⟩ := (xkn G hW q1).2.2
    obtain ⟨kc, hkc, -⟩ := Vm.findClass_spec k3
    have hcl : cell.cls = ta e' := by rw [x7 rfl]; rfl
    show W p l e R s m args below meth c H locs cells slots Q (F0 m pc lsM (xrv v :: xcv (.inl i) :: xrv a :: st'.map xcv))
    rw [xrv_pos e1, xrv_pos v1]
    refine W.aast F.1 F.2.1 e2 y1.1 y2 (by rw [hcl]; exact k1) k2 rfl hkc ⟨fun z => y3 (Or.inl z), Nat.lt_of_not_le fun z => y3 (Or.inr z)⟩ v2 (fun z hz => by rw [hz] at w2; cases w2) (by rw [w4]; exact hkC) (by rw [w4]; exact hasg CC comp z3 k3) rfl rfl d fun H' f3 f1 f2 => ?_
    refine kw H' _ cells slots lsM (xst_cfH C (xokS_c (xokS_c o2).2).2 (xput_A (z := v) G C.1 hW ht hi ((z2 v).mpr oz) e1 e2 (by rw [z1, xrv_pos v1]; exact f3) f1 f2) (fun q hq => ?_)) rfl rfl
    rcases List.mem_append.mp hq with w | w
    · exact C.2.1 q w
    · rw [List.mem_singleton.mp w]
      exact eb rfl
  · cases ha
theorem ok_alen {s0 : State} {A0 : Array Value} {D : va_G} {ta : Nat → ClassId} {l : Launch} {M pc np : Nat} (d : decode (xbytes M) pc = .ok (.arraylength, 1)) (hp : pc + 1 = np) : ActOK s0 A0 D ta l M pc (xaALen np) := by
  intro ls st h g pc' ls' st' h' ha hg
  subst hp
  unfold xaALen at ha
  split at ha
  · next a r =>
    cases ha
    refine ⟨Int.le_refl _, Int.le_refl _, ?_⟩
    intro p e R s m args below meth c G F hf hl Q H locs cells slots lsM C _ _ kw
    obtain ⟨w, e', n, ht⟩ := hg
    obtain ⟨b, cell, e1, e2, eb, x1, x2, x3, x4, x5, -⟩ := xarr C.1 F.2.2.2.2.2.2.2.2.1 ht
    rw [ht] at kw
    show W p l e R s m args below meth c H locs cells slots Q (F0 m pc lsM (xrv a :: r.map xcv))
    rw [xrv_pos e1]
    refine W.alen (n := Int32.ofInt n) F.1 F.2.1 e2 x1 ?_ rfl rfl d (kw H locs cells slots lsM (xst_cf0 C (xokS_k (show _ ∧ _ from ⟨Int.le_trans (by decide) x3, Int.lt_of_le_of_lt x4 (by decide)⟩) (xokS_c C.2.2.2.2).2)) rfl rfl)
    exact x5.2
  · cases ha
theorem xnew_rel {s0 : State} {A0 : Array Value} {D : va_G} {ta : Nat → ClassId} {l : Launch} (G : XG s0 A0 D ta l) {h : XH} {H H' : Heap} {e : Nat} {n : Int} (hR : XRel s0 D ta h H) (he : e < 8) (hn : 0 ≤ n ∧ n ≤ 65536) (f1 : H'.size = H.size + 1) (f2 : ∀ q : Nat, q < H.size → H'[q]? = H[q]?) (f3 : H'[H.size]? = some (arrV (ta e) n.toNat (fun _ => xev e 0))) : XRel s0 D ta (xnewa h e n) H' := by
  have hv : ∀ j : Int, xar (xnewa h e n) (xsz h) j = 0 := fun j => by
    show (if xsz h = xsz h then 0 else _) = (0 : Int)
    rw [if_pos rfl]
  have hok : xeok e 0 := by
    match e, he with
    | 0, _ => exact ⟨by decide, by decide⟩
    | 1, _ => exact ⟨by decide, by decide⟩
    | 2, _ => exact ⟨by decide, by decide⟩
    | 3, _ => exact ⟨by decide, by decide⟩
    | 4, _ => exact Int.le_refl 0
    | 5, _ => exact Int.le_refl 0
    | 6, _ => exact Int.le_refl 0
    | 7, _ => exact Int.le_refl 0
  refine hR.add rfl (fun z hz => ?_) (t := (true, e, some n)) ?_ rfl (fun z hz => ⟨rfl, ?_⟩) f1 f2 f3 ?_
  · show (if z = xsz h then _ else _) = _
    rw [if_neg hz]
    rfl
  · show (if xsz h = xsz h then _ else _) = _
    rw [if_pos rfl]
  · funext i
    show (if z = xsz h then 0 else xar h z i) = _
    rw [if_neg hz]
  · have e4 : arrV (ta e) n.toNat (fun _ => xev e 0) = arrV (ta e) n.toNat (fun j => xev e (xar (xnewa h e n) (xsz h) j)) := by
      congr 1
      funext j
      rw [hv]
    rw [e4]
    exact xarr_mk G he hn.1 hn.2 (fun j _ => by rw [hv]; exact hok)
theorem ok_new_int {s0 : State} {A0 : Array Value} {D : va_G} {ta : Nat → ClassId} {l : Launch} {M pc np : Nat} (d : decode (xbytes M) pc = .ok (.newarray .int, 2)) (hp : pc + 2 = np) : ActOK s0 A0 D ta l M pc (xaNewA 0 np) := by
  intro ls st h g pc' ls' st' h' ha hg
  subst hp
  unfold xaNewA at ha
  split at ha
  · next n r =>
    cases ha
    refine ⟨by show xsz h ≤ xsz h + 1; omega, by show xsl h ≤ xsl h + n; omega, ?_⟩
    intro p e R s m args below meth c G F hf hl Q H locs cells slots lsM C hcc hss kw
    have hc : (cells : Int) + 1 ≤ R.cells := by have : xsz (xnewa h 0 n) = xsz h + 1 := rfl; omega
    have hs : (slots : Int) + n ≤ R.slots := by have : xsl (xnewa h 0 n) = xsl h + n := rfl; omega
    have on := (xokS_c C.2.2.2.2).1
    have hn0 : ¬ Int32.ofInt n < 0 := fun q => by have := (xlt on xok0).mp q; omega
    have hnN : (Int32.ofInt n).toNatClampNeg = n.toNat := by
      show (Int32.ofInt n).toInt.toNat = _
      rw [x32 on]
    have hra := (G.2.2.1 0 (by decide)).2.moved F.2.2.2.2.2.2.2.2.1.alike
    refine va_newaK (atype := .int) F.1 F.2.1 (F.2.2.2.2.2.2.2.1 _ q292) rfl d rfl hn0 hnN (by show n.toNat * _ ≤ _; simp only [newarray.typeOf, componentBytes]; omega) (by omega) (by omega) rfl fun H' cA f3 f1 f2 hAr hNm => ?_
    have hcA : cA = ta 0 := Option.some.inj (hNm.symm.trans hra)
    subst hcA
    have hr := xnew_rel G C.1 (e := 0) (by decide) hg f1 f2 f3
    have hz : xsz h = (H.size : Int) + 1 := C.1.2.2.1
    have kz := kw H' locs (cells + 1) (slots + n.toNat) lsM (xst_cfH C (xokS_k (show 0 ≤ xsz h by omega) (xokS_c C.2.2.2.2).2) hr C.2.1) (by show ((cells + 1 : Nat) : Int) - (xsz h + 1) = _; omega) (by show ((slots + n.toNat : Nat) : Int) - (xsl h + n) = _; omega)
    have kz : W p l e R s m args below meth c H' locs (cells + 1) (slots + n.toNat) Q (F0 m (pc + 2) lsM (xrv (xsz h) :: r.map xcv)) := kz
    rw [xrv_pos hz] at kz
    exact kz
  · cases ha
theorem ok_new_byte {s0 : State} {A0 : Array Value} {D : va_G} {ta : Nat → ClassId} {l : Launch} {M pc np : Nat} (d : decode (xbytes M) pc = .ok (.newarray .byte, 2)) (hp : pc + 2 = np) : ActOK s0 A0 D ta l M pc (xaNewA 1 np) := by
  intro ls st h g pc' ls' st' h' ha hg
  subst hp
  unfold xaNewA at ha
  split at ha
  · next n r =>
    cases ha
    refine ⟨by show xsz h ≤ xsz h + 1; omega, by show xsl h ≤ xsl h + n; omega, ?_⟩
    intro p e R s m args below meth c G F hf hl Q H locs cells slots lsM C hcc hss kw
    have hc : (cells : Int) + 1 ≤ R.cells := by have : xsz (xnewa h 1 n) = xsz h + 1 := rfl; omega
    have hs : (slots : Int) + n ≤ R.slots := by have : xsl (xnewa h 1 n) = xsl h + n := rfl; omega
    have on := (xokS_c C.2.2.2.2).1
    have hn0 : ¬ Int32.ofInt n < 0 := fun q => by have := (xlt on xok0).mp q; omega
    have hnN : (Int32.ofInt n).toNatClampNeg = n.toNat := by
      show (Int32.ofInt n).toInt.toNat = _
      rw [x32 on]
    have hra := (G.2.2.1 1 (by decide)).2.moved F.2.2.2.2.2.2.2.2.1.alike
    refine va_newaK (atype := .byte) F.1 F.2.1 (F.2.2.2.2.2.2.2.1 _ q228) rfl d rfl hn0 hnN (by show n.toNat * _ ≤ _; simp only [newarray.typeOf, componentBytes]; omega) (by omega) (by omega) rfl fun H' cA f3 f1 f2 hAr hNm => ?_
    have hcA : cA = ta 1 := Option.some.inj (hNm.symm.trans hra)
    subst hcA
    have hr := xnew_rel G C.1 (e := 1) (by decide) hg f1 f2 f3
    have hz : xsz h = (H.size : Int) + 1 := C.1.2.2.1
    have kz := kw H' locs (cells + 1) (slots + n.toNat) lsM (xst_cfH C (xokS_k (show 0 ≤ xsz h by omega) (xokS_c C.2.2.2.2).2) hr C.2.1) (by show ((cells + 1 : Nat) : Int) - (xsz h + 1) = _; omega) (by show ((slots + n.toNat : Nat) : Int) - (xsl h + n) = _; omega)
    have kz : W p l e R s m args below meth c H' locs (cells + 1) (slots + n.toNat) Q (F0 m (pc + 2) lsM (xrv (xsz h) :: r.map xcv)) := kz
    rw [xrv_pos hz] at kz
    exact kz
  · cases ha
theorem ok_new_char {s0 : State} {A0 : Array Value} {D : va_G} {ta : Nat → ClassId} {l : Launch} {M pc np : Nat} (d : decode (xbytes M) pc = .ok (.newarray .char, 2)) (hp : pc + 2 = np) : ActOK s0 A0 D ta l M pc (xaNewA 2 np) := by
  intro ls st h g pc' ls' st' h' ha hg
  subst hp
  unfold xaNewA at ha
  split at ha
  · next n r =>
    cases ha
    refine ⟨by show xsz h ≤ xsz h + 1; omega, by show xsl h ≤ xsl h + n; omega, ?_⟩
    intro p e R s m args below meth c G F hf hl Q H locs cells slots lsM C hcc hss kw
    have hc : (cells : Int) + 1 ≤ R.cells := by have : xsz (xnewa h 2 n) = xsz h + 1 := rfl; omega
    have hs : (slots : Int) + n ≤ R.slots := by have : xsl (xnewa h 2 n) = xsl h + n := rfl; omega
    have on := (xokS_c C.2.2.2.2).1
    have hn0 : ¬ Int32.ofInt n < 0 := fun q => by have := (xlt on xok0).mp q; omega
    have hnN : (Int32.ofInt n).toNatClampNeg = n.toNat := by
      show (Int32.ofInt n).toInt.toNat = _
      rw [x32 on]
    have hra := (G.2.2.1 2 (by decide)).2.moved F.2.2.2.2.2.2.2.2.1.alike
    refine va_newaK (atype := .char) F.1 F.2.1 (F.2.2.2.2.2.2.2.1 _ q263) rfl d rfl hn0 hnN (by show n.toNat * _ ≤ _; simp only [newarray.typeOf, componentBytes]; omega) (by omega) (by omega) rfl fun H' cA f3 f1 f2 hAr hNm => ?_
    have hcA : cA = ta 2 := Option.some.inj (hNm.symm.trans hra)
    subst hcA
    have hr := xnew_rel G C.1 (e := 2) (by decide) hg f1 f2 f3
    have hz : xsz h = (H.size : Int) + 1 := C.1.2.2.1
    have kz := kw H' locs (cells + 1) (slots + n.toNat) lsM (xst_cfH C (xokS_k (show 0 ≤ xsz h by omega) (xokS_c C.2.2.2.2).2) hr C.2.1) (by show ((cells + 1 : Nat) : Int) - (xsz h + 1) = _; omega) (by show ((slots + n.toNat : Nat) : Int) - (xsl h + n) = _; omega)
    have kz : W p l e R s m args below meth c H' locs (cells + 1) (slots + n.toNat) Q (F0 m (pc + 2) lsM (xrv (xsz h) :: r.map xcv)) := kz
    rw [xrv_pos hz] at kz
    exact kz
  · cases ha
theorem ok_new_long {s0 : State} {A0 : Array Value} {D : va_G} {ta : Nat → ClassId} {l : Launch} {M pc np : Nat} (d : decode (xbytes M) pc = .ok (.newarray .long, 2)) (hp : pc + 2 = np) : ActOK s0 A0 D ta l M pc (xaNewA 3 np) := by
  intro ls st h g pc' ls' st' h' ha hg
  subst hp
  unfold xaNewA at ha
  split at ha
  · next n r =>
    cases ha
    refine ⟨by show xsz h ≤ xsz h + 1; omega, by show xsl h ≤ xsl h + n; omega, ?_⟩
    intro p e R s m args below meth c G F hf hl Q H locs cells slots lsM C hcc hss kw
    have hc : (cells : Int) + 1 ≤ R.cells := by have : xsz (xnewa h 3 n) = xsz h + 1 := rfl; omega
    have hs : (slots : Int) + n ≤ R.slots := by have : xsl (xnewa h 3 n) = xsl h + n := rfl; omega
    have on := (xokS_c C.2.2.2.2).1
    have hn0 : ¬ Int32.ofInt n < 0 := fun q => by have := (xlt on xok0).mp q; omega
    have hnN : (Int32.ofInt n).toNatClampNeg = n.toNat := by
      show (Int32.ofInt n).toInt.toNat = _
      rw [x32 on]
    have hra := (G.2.2.1 3 (by decide)).2.moved F.2.2.2.2.2.2.2.2.1.alike
    refine va_newaK (atype := .long) F.1 F.2.1 (F.2.2.2.2.2.2.2.1 _ q1646) rfl d rfl hn0 hnN (by show n.toNat * _ ≤ _; simp only [newarray.typeOf, componentBytes]; omega) (by omega) (by omega) rfl fun H' cA f3 f1 f2 hAr hNm => ?_
    have hcA : cA = ta 3 := Option.some.inj (hNm.symm.trans hra)
    subst hcA
    have hr := xnew_rel G C.1 (e := 3) (by decide) hg f1 f2 f3
    have hz : xsz h = (H.size : Int) + 1 := C.1.2.2.1
    have kz := kw H' locs (cells + 1) (slots + n.toNat) lsM (xst_cfH C (xokS_k (show 0 ≤ xsz h by omega) (xokS_c C.2.2.2.2).2) hr C.2.1) (by show ((cells + 1 : Nat) : Int) - (xsz h + 1) = _; omega) (by show ((slots + n.toNat : Nat) : Int) - (xsl h + n) = _; omega)
    have kz : W p l e R s m args below meth c H' locs (cells + 1) (slots + n.toNat) Q (F0 m (pc + 2) lsM (xrv (xsz h) :: r.map xcv)) := kz
    rw [xrv_pos hz] at kz
    exact kz
  · cases ha
theorem ok_anew_Rooms {s0 : State} {A0 : Array Value} {D : va_G} {ta : Nat → ClassId} {l : Launch} {M pc np : Nat} {index : Nat} (d : decode (xbytes M) pc = .ok (.anewarray index, 3)) (hp : pc + 3 = np) (q : Cond.classLink (xname M).cls index "WrongRoom$Rooms" ∈ lw_all) : ActOK s0 A0 D ta l M pc (xaNewA 4 np) := by
  intro ls st h g pc' ls' st' h' ha hg
  subst hp
  unfold xaNewA at ha
  split at ha
  · next n r =>
    cases ha
    refine ⟨by show xsz h ≤ xsz h + 1; omega, by show xsl h ≤ xsl h + n; omega, ?_⟩
    intro p e R s m args below meth c G F hf hl Q H locs cells slots lsM C hcc hss kw
    have hc : (cells : Int) + 1 ≤ R.cells := by have : xsz (xnewa h 4 n) = xsz h + 1 := rfl; omega
    have hs : (slots : Int) + n ≤ R.slots := by have : xsl (xnewa h 4 n) = xsl h + n := rfl; omega
    have on := (xokS_c C.2.2.2.2).1
    have hn0 : ¬ Int32.ofInt n < 0 := fun q => by have := (xlt on xok0).mp q; omega
    have hnN : (Int32.ofInt n).toNatClampNeg = n.toNat := by
      show (Int32.ofInt n).toInt.toNat = _
      rw [x32 on]
    have hW := F.2.2.2.2.2.2.2.2.1
    have hra := (G.2.2.1 4 (by decide)).2.moved hW.alike
    obtain ⟨-, -, -, -, -, hra⟩ := hra
    refine W.anew F.1 F.2.1 F.2.2.2.2.2.1 (F.2.2.2.2.2.2.2.1 _ q) (va_AO.use (va_AO.moved hW.alike (va_AO.of (G.1 _ q377)))) rfl d rfl hn0 (by rw [hnN]; omega) (by omega) (by rw [hnN]; omega) fun cA kA comp f1 f2 f3 f4 => ?_
    have hcA : cA = ta 4 := Option.some.inj (f1.symm.trans hra)
    subst hcA
    rw [hnN]
    have hr := xnew_rel G C.1 (e := 4) (n := n) (H' := H.push { cls := ta 4, slots := Array.replicate n.toNat .null, vm := .none }) (by decide) hg (by simp) (fun q hq => by rw [Array.getElem?_push, if_neg (Nat.ne_of_lt hq)]) (by rw [Array.getElem?_push_size, ← arrV_new]; rfl)
    have hz : xsz h = (H.size : Int) + 1 := C.1.2.2.1
    have kz := kw _ locs (cells + 1) (slots + n.toNat) lsM (xst_cfH C (xokS_k (show 0 ≤ xsz h by omega) (xokS_c C.2.2.2.2).2) hr C.2.1) (by show ((cells + 1 : Nat) : Int) - (xsz h + 1) = _; omega) (by show ((slots + n.toNat : Nat) : Int) - (xsl h + n) = _; omega)
    have kz : W p l e R s m args below meth c _ locs (cells + 1) (slots + n.toNat) Q (F0 m (pc + 3) lsM (xrv (xsz h) :: r.map xcv)) := kz
    rw [xrv_pos hz] at kz
    exact kz
  · cases ha
theorem ok_anew_House {s0 : State} {A0 : Array Value} {D : va_G} {ta : Nat → ClassId} {l : Launch} {M pc np : Nat} {index : Nat} (d : decode (xbytes M) pc = .ok (.anewarray index, 3)) (hp : pc + 3 = np) (q : Cond.classLink (xname M).cls index "WrongRoom$House" ∈ lw_all) : ActOK s0 A0 D ta l M pc (xaNewA 5 np) := by
  intro ls st h g pc' ls' st' h' ha hg
  subst hp
  unfold xaNewA at ha
  split at ha
  · next n r =>
    cases ha
    refine ⟨by show xsz h ≤ xsz h + 1; omega, by show xsl h ≤ xsl h + n; omega, ?_⟩
    intro p e R s m args below meth c G F hf hl Q H locs cells slots lsM C hcc hss kw
    have hc : (cells : Int) + 1 ≤ R.cells := by have : xsz (xnewa h 5 n) = xsz h + 1 := rfl; omega
    have hs : (slots : Int) + n ≤ R.slots := by have : xsl (xnewa h 5 n) = xsl h + n := rfl; omega
    have on := (xokS_c C.2.2.2.2).1
    have hn0 : ¬ Int32.ofInt n < 0 := fun q => by have := (xlt on xok0).mp q; omega
    have hnN : (Int32.ofInt n).toNatClampNeg = n.toNat := by
      show (Int32.ofInt n).toInt.toNat = _
      rw [x32 on]
    have hW := F.2.2.2.2.2.2.2.2.1
    have hra := (G.2.2.1 5 (by decide)).2.moved hW.alike
    obtain ⟨-, -, -, -, -, hra⟩ := hra
    refine W.anew F.1 F.2.1 F.2.2.2.2.2.1 (F.2.2.2.2.2.2.2.1 _ q) (va_AO.use (va_AO.moved hW.alike (va_AO.of (G.1 _ q499)))) rfl d rfl hn0 (by rw [hnN]; omega) (by omega) (by rw [hnN]; omega) fun cA kA comp f1 f2 f3 f4 => ?_
    have hcA : cA = ta 5 := Option.some.inj (f1.symm.trans hra)
    subst hcA
    rw [hnN]
    have hr := xnew_rel G C.1 (e := 5) (n := n) (H' := H.push { cls := ta 5, slots := Array.replicate n.toNat .null, vm := .none }) (by decide) hg (by simp) (fun q hq => by rw [Array.getElem?_push, if_neg (Nat.ne_of_lt hq)]) (by rw [Array.getElem?_push_size, ← arrV_new]; rfl)
    have hz : xsz h = (H.size : Int) + 1 := C.1.2.2.1
    have kz := kw _ locs (cells + 1) (slots + n.toNat) lsM (xst_cfH C (xokS_k (show 0 ≤ xsz h by omega) (xokS_c C.2.2.2.2).2) hr C.2.1) (by show ((cells + 1 : Nat) : Int) - (xsz h + 1) = _; omega) (by show ((slots + n.toNat : Nat) : Int) - (xsl h + n) = _; omega)
    have kz : W p l e R s m args below meth c _ locs (cells + 1) (slots + n.toNat) Q (F0 m (pc + 3) lsM (xrv (xsz h) :: r.map xcv)) := kz
    rw [xrv_pos hz] at kz
    exact kz
  · cases ha
theorem ok_anew_Person {s0 : State} {A0 : Array Value} {D : va_G} {ta : Nat → ClassId} {l : Launch} {M pc np : Nat} {index : Nat} (d : decode (xbytes M) pc = .ok (.anewarray index, 3)) (hp : pc + 3 = np) (q : Cond.classLink (xname M).cls index "WrongRoom$Person" ∈ lw_all) : ActOK s0 A0 D ta l M pc (xaNewA 6 np) := by
  intro ls st h g pc' ls' st' h' ha hg
  subst hp
  unfold xaNewA at ha
  split at ha
  · next n r =>
    cases ha
    refine ⟨by show xsz h ≤ xsz h + 1; omega, by show xsl h ≤ xsl h + n; omega, ?_⟩
    intro p e R s m args below meth c G F hf hl Q H locs cells slots lsM C hcc hss kw
    have hc : (cells : Int) + 1 ≤ R.cells := by have : xsz (xnewa h 6 n) = xsz h + 1 := rfl; omega
    have hs : (slots : Int) + n ≤ R.slots := by have : xsl (xnewa h 6 n) = xsl h + n := rfl; omega
    have on := (xokS_c C.2.2.2.2).1
    have hn0 : ¬ Int32.ofInt n < 0 := fun q => by have := (xlt on xok0).mp q; omega
    have hnN : (Int32.ofInt n).toNatClampNeg = n.toNat := by
      show (Int32.ofInt n).toInt.toNat = _
      rw [x32 on]
    have hW := F.2.2.2.2.2.2.2.2.1
    have hra := (G.2.2.1 6 (by decide)).2.moved hW.alike
    obtain ⟨-, -, -, -, -, hra⟩ := hra
    refine W.anew F.1 F.2.1 F.2.2.2.2.2.1 (F.2.2.2.2.2.2.2.1 _ q) (va_AO.use (va_AO.moved hW.alike (va_AO.of (G.1 _ q501)))) rfl d rfl hn0 (by rw [hnN]; omega) (by omega) (by rw [hnN]; omega) fun cA kA comp f1 f2 f3 f4 => ?_
    have hcA : cA = ta 6 := Option.some.inj (f1.symm.trans hra)
    subst hcA
    rw [hnN]
    have hr := xnew_rel G C.1 (e := 6) (n := n) (H' := H.push { cls := ta 6, slots := Array.replicate n.toNat .null, vm := .none }) (by decide) hg (by simp) (fun q hq => by rw [Array.getElem?_push, if_neg (Nat.ne_of_lt hq)]) (by rw [Array.getElem?_push_size, ← arrV_new]; rfl)
    have hz : xsz h = (H.size : Int) + 1 := C.1.2.2.1
    have kz := kw _ locs (cells + 1) (slots + n.toNat) lsM (xst_cfH C (xokS_k (show 0 ≤ xsz h by omega) (xokS_c C.2.2.2.2).2) hr C.2.1) (by show ((cells + 1 : Nat) : Int) - (xsz h + 1) = _; omega) (by show ((slots + n.toNat : Nat) : Int) - (xsl h + n) = _; omega)
    have kz : W p l e R s m args below meth c _ locs (cells + 1) (slots + n.toNat) Q (F0 m (pc + 3) lsM (xrv (xsz h) :: r.map xcv)) := kz
    rw [xrv_pos hz] at kz
    exact kz
  · cases ha
theorem ok_anew_Notice {s0 : State} {A0 : Array Value} {D : va_G} {ta : Nat → ClassId} {l : Launch} {M pc np : Nat} {index : Nat} (d : decode (xbytes M) pc = .ok (.anewarray index, 3)) (hp : pc + 3 = np) (q : Cond.classLink (xname M).cls index "WrongRoom$Notice" ∈ lw_all) : ActOK s0 A0 D ta l M pc (xaNewA 7 np) := by
  intro ls st h g pc' ls' st' h' ha hg
  subst hp
  unfold xaNewA at ha
  split at ha
  · next n r =>
    cases ha
    refine ⟨by show xsz h ≤ xsz h + 1; omega, by show xsl h ≤ xsl h + n; omega, ?_⟩
    intro p e R s m args below meth c G F hf hl Q H locs cells slots lsM C hcc hss kw
    have hc : (cells : Int) + 1 ≤ R.cells := by have : xsz (xnewa h 7 n) = xsz h + 1 := rfl; omega
    have hs : (slots : Int) + n ≤ R.slots := by have : xsl (xnewa h 7 n) = xsl h + n := rfl; omega
    have on := (xokS_c C.2.2.2.2).1
    have hn0 : ¬ Int32.ofInt n < 0 := fun q => by have := (xlt on xok0).mp q; omega
    have hnN : (Int32.ofInt n).toNatClampNeg = n.toNat := by
      show (Int32.ofInt n).toInt.toNat = _
      rw [x32 on]
    have hW := F.2.2.2.2.2.2.2.2.1
    have hra := (G.2.2.1 7 (by decide)).2.moved hW.alike
    obtain ⟨-, -, -, -, -, hra⟩ := hra
    refine W.anew F.1 F.2.1 F.2.2.2.2.2.1 (F.2.2.2.2.2.2.2.1 _ q) (va_AO.use (va_AO.moved hW.alike (va_AO.of (G.1 _ q503)))) rfl d rfl hn0 (by rw [hnN]; omega) (by omega) (by rw [hnN]; omega) fun cA kA comp f1 f2 f3 f4 => ?_
    have hcA : cA = ta 7 := Option.some.inj (f1.symm.trans hra)
    subst hcA
    rw [hnN]
    have hr := xnew_rel G C.1 (e := 7) (n := n) (H' := H.push { cls := ta 7, slots := Array.replicate n.toNat .null, vm := .none }) (by decide) hg (by simp) (fun q hq => by rw [Array.getElem?_push, if_neg (Nat.ne_of_lt hq)]) (by rw [Array.getElem?_push_size, ← arrV_new]; rfl)
    have hz : xsz h = (H.size : Int) + 1 := C.1.2.2.1
    have kz := kw _ locs (cells + 1) (slots + n.toNat) lsM (xst_cfH C (xokS_k (show 0 ≤ xsz h by omega) (xokS_c C.2.2.2.2).2) hr C.2.1) (by show ((cells + 1 : Nat) : Int) - (xsz h + 1) = _; omega) (by show ((slots + n.toNat : Nat) : Int) - (xsl h + n) = _; omega)
    have kz : W p l e R s m args below meth c _ locs (cells + 1) (slots + n.toNat) Q (F0 m (pc + 3) lsM (xrv (xsz h) :: r.map xcv)) := kz
    rw [xrv_pos hz] at kz
    exact kz
  · cases ha
