/-! THE MINI-MACHINE IS SOUND, 6: fields read and written -/
set_option maxRecDepth 100000
set_option maxHeartbeats 4000000
theorem xk_int {f : Nat} (h : xfk f < 3) (z : Int) : xkv (xfk f) z = .int (Int32.ofInt z) ∧ (xkok (xfk f) z → xok (.inl z)) := by
  generalize xfk f = k at h
  match k, h with
  | 0, _ => exact ⟨rfl, fun q => q⟩
  | 1, _ => exact ⟨rfl, fun q => ⟨Int.le_trans (by decide) q.1, Int.lt_of_le_of_lt q.2 (by decide)⟩⟩
  | 2, _ => exact ⟨rfl, fun q => ⟨Int.le_trans (by decide) q.1, Int.lt_of_le_of_lt q.2 (by decide)⟩⟩
theorem ok_getI {s0 : State} {A0 : Array Value} {D : va_G} {ta : Nat → ClassId} {l : Launch} {M pc np index f : Nat} (d : decode (xbytes M) pc = .ok (.getfield index, 3)) (hp : pc + 3 = np) (L : LinkOK s0 A0 (xname M).cls index f) (hk : xfk f < 3) : ActOK s0 A0 D ta l M pc (xaGetI f np) := by
  intro ls st h g pc' ls' st' h' ha hg
  subst hp
  unfold xaGetI at ha
  split at ha
  · next a r =>
    cases ha
    refine ⟨Int.le_refl _, Int.le_refl _, ?_⟩
    intro p e R s m args below meth c G F hf hl Q H locs cells slots lsM C _ _ kw
    refine xget_W G F L C.1 hg d fun okz => ?_
    rw [(xk_int hk _).1]
    exact kw H locs cells slots lsM (xst_cf0 C (xokS_k ((xk_int hk _).2 okz) (xokS_c C.2.2.2.2).2)) rfl rfl
  · cases ha
theorem ok_getJ {s0 : State} {A0 : Array Value} {D : va_G} {ta : Nat → ClassId} {l : Launch} {M pc np index f : Nat} (d : decode (xbytes M) pc = .ok (.getfield index, 3)) (hp : pc + 3 = np) (L : LinkOK s0 A0 (xname M).cls index f) (hk : xfk f = 3) : ActOK s0 A0 D ta l M pc (xaGetJ f np) := by
  intro ls st h g pc' ls' st' h' ha hg
  subst hp
  unfold xaGetJ at ha
  split at ha
  · next a r =>
    cases ha
    refine ⟨Int.le_refl _, Int.le_refl _, ?_⟩
    intro p e R s m args below meth c G F hf hl Q H locs cells slots lsM C _ _ kw
    refine xget_W G F L C.1 hg d fun okz => ?_
    rw [hk] at okz ⊢
    exact kw H locs cells slots lsM (xst_cf0 C (xokS_k okz (xokS_c C.2.2.2.2).2)) rfl rfl
  · cases ha
theorem ok_getA {s0 : State} {A0 : Array Value} {D : va_G} {ta : Nat → ClassId} {l : Launch} {M pc np index f : Nat} (d : decode (xbytes M) pc = .ok (.getfield index, 3)) (hp : pc + 3 = np) (L : LinkOK s0 A0 (xname M).cls index f) (hk : xfk f = 4) : ActOK s0 A0 D ta l M pc (xaGetA f np) := by
  intro ls st h g pc' ls' st' h' ha hg
  subst hp
  unfold xaGetA at ha
  split at ha
  · next a r =>
    cases ha
    refine ⟨Int.le_refl _, Int.le_refl _, ?_⟩
    intro p e R s m args below meth c G F hf hl Q H locs cells slots lsM C _ _ kw
    refine xget_W G F L C.1 hg d fun okz => ?_
    rw [hk] at okz ⊢
    exact kw H locs cells slots lsM (xst_cf0 C (xokS_k okz (xokS_c C.2.2.2.2).2)) rfl rfl
  · cases ha
/-- a class's fields are apart -/
def xapOK : Bool := (List.range 18).all fun c => (List.range (xcf c).length).all fun a => (parseFieldDescriptor (xfr (xnth 0 (xcf c) a)).2.2.1).isSome && (List.range (xcf c).length).all fun b => Nat.beq a b || (decide ((xfr (xnth 0 (xcf c) a)).2.1 ≠ (xfr (xnth 0 (xcf c) b)).2.1) && !(Nat.beq (xnth 0 (xcf c) a) (xnth 0 (xcf c) b)))
theorem xap_ok : xapOK = true := by decide +kernel
theorem xap {c a b f g : Nat} (hc : c < 18) (ha : (xcf c)[a]? = some f) (hb : (xcf c)[b]? = some g) (hn : a ≠ b) : (xfr f).2.1 ≠ (xfr g).2.1 ∧ f ≠ g := by
  have h1 := List.all_eq_true.mp xap_ok c (List.mem_range.mpr hc)
  have h2 := List.all_eq_true.mp h1 a (List.mem_range.mpr (List.getElem?_eq_some_iff.mp ha).1)
  simp only [Bool.and_eq_true] at h2
  have h3 := List.all_eq_true.mp h2.2 b (List.mem_range.mpr (List.getElem?_eq_some_iff.mp hb).1)
  rw [xnth_get 0 _ a f ha, xnth_get 0 _ b g hb, Bool.or_eq_true] at h3
  rcases h3 with h3 | h3
  · exact absurd (Nat.eq_of_beq_eq_true h3) hn
  · simp only [Bool.and_eq_true, decide_eq_true_eq] at h3
    refine ⟨h3.1, fun q => ?_⟩
    rw [q] at h3
    simp at h3
theorem xpd {c a f : Nat} (hc : c < 18) (ha : (xcf c)[a]? = some f) : ∃ ty, parseFieldDescriptor (xfr f).2.2.1 = some ty := by
  have h1 := List.all_eq_true.mp xap_ok c (List.mem_range.mpr hc)
  have h2 := List.all_eq_true.mp h1 a (List.mem_range.mpr (List.getElem?_eq_some_iff.mp ha).1)
  simp only [Bool.and_eq_true] at h2
  rw [xnth_get 0 _ a f ha] at h2
  exact Option.isSome_iff_exists.mp h2.1
theorem xput_W {s0 : State} {A0 : Array Value} {D : va_G} {ta : Nat → ClassId} {l : Launch} {M pc : Nat} {p : Program} {e : Env} {R : Room} {s : State} {m : MethodId} {args : Array Value} {below : List Frame} {meth : Method} {c : Code} {H : Heap} {locs : List Loc} {cells slots : Nat} {Q : State → Prop} {lsM : Array Slot} {rest : List Value} {h : XH} {a z : Int} {f index : Nat} {ty : FieldType}
    (G : XG s0 A0 D ta l) (F : XF s0 M p s m args meth c) (L : LinkOK s0 A0 (xname M).cls index f) (hR : XRel s0 D ta h H) (hlo : ∀ q ∈ locs, s0.heap.size ≤ q.base) (hf : xIsW h a f) (d : decode (xbytes M) pc = .ok (.putfield index, 3))
    (hd : parseFieldDescriptor (xfr f).2.2.1 = some ty) (hn : narrow ty (xkv (xfk f) z) = xkv (xfk f) z) (hfit : fits ty (xkv (xfk f) z) = true) (okz : xkok (xfk f) z) (hfin : (xfr f).2.2.2 = false ∨ ((xfr f).2.2.2 = true ∧ (xname M).name = "<init>" ∧ (xfr f).1 = (xname M).cls))
    (k : ∀ (H' : Heap) (locs' : List Loc), XRel s0 D ta (xputf h a f z) H' → (∀ q ∈ locs', s0.heap.size ≤ q.base) → W p l e R s m args below meth c H' locs' cells slots Q (F0 m (pc + 3) lsM rest)) : W p l e R s m args below meth c H locs cells slots Q (F0 m pc lsM (xkv (xfk f) z :: xrv a :: rest)) := by
  obtain ⟨cc, ht, hh⟩ := hf
  obtain ⟨b, cell, e1, e2, eb, y1, y2, y3, y4, y5, y6⟩ := hR.2.2.2.1 a _ ht
  have y3 := y3 rfl
  have eb := eb rfl
  obtain ⟨j, hj⟩ := xhas_get hh
  obtain ⟨z1, z2⟩ := y6 j f hj
  obtain ⟨q, q1, q2, q3⟩ := xtab y5
  have hjN : j < q.2.2 := by rw [q2]; exact (List.getElem?_eq_some_iff.mp hj).1
  have hW := F.2.2.2.2.2.2.2.2.1
  have hts := F.2.2.2.2.2.2.2.1
  have hown := F.2.2.2.2.2.1
  obtain ⟨hS, hfc, kC, hkC, hkind⟩ := xkn G hW q1
  obtain ⟨cf, kf, fi, fd, hi, hsl⟩ := hS j hjN
  have hlays := u_lays hts (xlays q1) hjN
  have hst := (u_facts hfc hkC hlays hi).1
  have hlay := hts _ (xlays q1 _ (u_in_lay hjN))
  have hnew : ∀ cell' : Cell, cell' = cell.setSlot fd.slot (xkv (xfk f) z) → XCell s0 D ta (true, cc, none) (xputf h a f z) a cell' := by
    intro cell' hc'
    subst hc'
    refine ⟨y1, y2, fun _ => y3, y4, y5, fun k g hg => ?_⟩
    show ((cell.slots.setIfInBounds fd.slot (xkv (xfk f) z))[D.2 cc k]? = some (xkv (xfk g) (if a = a ∧ g = f then z else xfl h a g))) ∧ xkok (xfk g) (if a = a ∧ g = f then z else xfl h a g)
    by_cases hkj : k = j
    · subst hkj
      rw [hj] at hg
      cases hg
      rw [if_pos ⟨rfl, rfl⟩]
      refine ⟨?_, okz⟩
      have hlt : fd.slot < cell.slots.size := by rw [hsl]; exact k2_hasslot z1
      rw [← hsl]
      simp [Array.getElem?_setIfInBounds, hlt]
    · obtain ⟨n1, n2⟩ := xap y5 hg hj hkj
      rw [if_neg (fun w => n2 w.2)]
      obtain ⟨x1, x2⟩ := y6 k g hg
      have hkN : k < q.2.2 := by rw [q2]; exact (List.getElem?_eq_some_iff.mp hg).1
      obtain ⟨cf2, kf2, fi2, fd2, hi2, hsl2⟩ := hS k hkN
      obtain ⟨ty2, hty2⟩ := xpd y5 hg
      have hne : fd2.name ≠ fd.name := by
        have h3 := hi2
        rw [q3 k g hg] at h3
        have h4 := hi
        rw [q3 j f hj] at h4
        rw [(State.fieldFound?_type h3 hty2).1, (State.fieldFound?_type h4 hd).1]
        exact n1
      have hap := u_apart (u_lays hts (xlays q1) hkN) hlays hi2 hi hne
      rw [hsl2] at hap
      refine ⟨?_, x2⟩
      rw [Array.getElem?_setIfInBounds_ne (Ne.symm hap)]
      exact x1
  rw [q3 j f hj] at hi
  obtain ⟨ref, hl, hsame⟩ := L s args G.1 hW hts
  rw [xrv_pos e1]
  have hslot : fd.slot < cell.slots.size := by rw [hsl]; exact k2_hasslot z1
  have fin : ∀ H' : Heap, H'[b]? = some (cell.setSlot fd.slot (xkv (xfk f) z)) → H'.size = H.size → (∀ q, q ≠ b → H'[q]? = H[q]?) → W p l e R s m args below meth c H' (locs ++ [⟨b, fd.slot⟩]) cells slots Q (F0 m (pc + 3) lsM rest) := by
    intro H' f3 f1 f2
    refine k H' _ (hR.upd ht e1 eb rfl rfl rfl (fun z' hz' => ⟨?_, rfl⟩) f1 f2 f3 (hnew _ rfl)) (fun q hq => ?_)
    · funext f'
      show (if z' = a ∧ f' = f then z else xfl h z' f') = _
      rw [if_neg (fun w => hz' w.1)]
    · rcases List.mem_append.mp hq with w | w
      · exact hlo q w
      · rw [List.mem_singleton.mp w]
        exact eb
  rcases hfin with hfin | ⟨hfin, hin, hdecl⟩
  · unfold u_lay at hlay
    rw [q3 j f hj, if_neg (by rw [hfin]; decide)] at hlay
    have h6 : k2_Sd s fd cell.cls (xkv (xfk f) z) := by rw [y4]; exact u_store hfc hkC hkind hlay hi hd hn hfit
    rcases hl with hl | ⟨host, hl⟩
    · exact W.putK F.1 F.2.1 (f := fd) ⟨hown, hl, ⟨_, _, _, hsame _ hi⟩, hst⟩ h6 e2 y3 hslot rfl rfl d fin
    · exact va_WputK F.1 F.2.1 (f := fd) hown hl (hsame _ hi) hst h6 e2 y3 hslot rfl rfl d fin
  · unfold u_lay at hlay
    rw [q3 j f hj, if_pos hfin] at hlay
    have hcf : m.cls = cf := by
      obtain ⟨_, _, c', _, _, _, -, -, hf', -, -, -, hown2, -⟩ := Cond.laysFinal_spec hlay
      have e1 : c' = cf := by have := hi.symm.trans hf'; simp at this; exact this.1.symm
      rw [hdecl] at hown2
      rw [← e1]; exact Option.some.inj (hown.symm.trans hown2)
    have h6 : narrow fd.type (xkv (xfk f) z) = xkv (xfk f) z ∧ s.fitsSlot cell.cls .none fd.slot (xkv (xfk f) z) = true := by rw [y4]; exact u_fits hfc hkC hkind (Or.inr hlay) hi hd hn hfit
    rcases hl with hl | ⟨host, hl⟩
    · exact W.putFinK F.1 F.2.1 hown hl (hsame _ hi) hst hcf (by rw [F.2.2.2.2.2.2.1]; exact hin) h6 e2 y3 hslot rfl rfl d fin
    · have hb : b < H.size := (Array.getElem?_eq_some_iff.mp e2).1
      refine va_Wputf F.1 F.2.1 hown hl (hsame _ hi) hst (Or.inr ⟨hcf, by rw [F.2.2.2.2.2.2.1]; exact hin⟩) e2 y1 hslot h6.1 (by rw [y3]; exact h6.2) rfl rfl d (fin _ ?_ ?_ ?_)
      · simp [Array.getElem?_setIfInBounds, hb]
      · simp
      · intro q hq
        simp [Array.getElem?_setIfInBounds, Ne.symm hq]
theorem xst_cfH {s0 : State} {D : va_G} {ta : Nat → ClassId} {M : Nat} {h h' : XH} {ls : XL} {st st' : XS} {H H' : Heap} {locs locs' : List Loc} {lsM : Array Slot} (C : XCf s0 D ta M h ls st H locs lsM) (hst : xokS st') (hr : XRel s0 D ta h' H') (hlo : ∀ q ∈ locs', s0.heap.size ≤ q.base) : XCf s0 D ta M h' ls st' H' locs' lsM := ⟨hr, hlo, C.2.2.1, C.2.2.2.1, hst⟩
abbrev xFin (M f : Nat) : Prop := (xfr f).2.2.2 = false ∨ ((xfr f).2.2.2 = true ∧ (xname M).name = "<init>" ∧ (xfr f).1 = (xname M).cls)
theorem ok_putI {s0 : State} {A0 : Array Value} {D : va_G} {ta : Nat → ClassId} {l : Launch} {M pc np index f : Nat} (d : decode (xbytes M) pc = .ok (.putfield index, 3)) (hp : pc + 3 = np) (L : LinkOK s0 A0 (xname M).cls index f) (hk : xfk f = 0) (hd : parseFieldDescriptor (xfr f).2.2.1 = some .int) (hfin : xFin M f) : ActOK s0 A0 D ta l M pc (xaPutI f np) := by
  intro ls st h g pc' ls' st' h' ha hg
  subst hp
  unfold xaPutI at ha
  split at ha
  · next z a r =>
    cases ha
    refine ⟨Int.le_refl _, Int.le_refl _, ?_⟩
    intro p e R s m args below meth c G F hf hl Q H locs cells slots lsM C _ _ kw
    obtain ⟨oz, o2⟩ := xokS_c C.2.2.2.2
    have key := xput_W (z := z) (rest := st'.map xcv) (lsM := lsM) (e := e) (R := R) (below := below) (cells := cells) (slots := slots) (Q := Q) G F L C.1 C.2.1 hg d hd (by rw [hk]; rfl) (by rw [hk]; rfl) (by rw [hk]; exact oz) hfin (fun H' locs' hr hlo => kw H' locs' cells slots lsM (xst_cfH C (xokS_c o2).2 hr hlo) rfl rfl)
    rw [hk] at key
    exact key
  · cases ha
theorem ok_putZ {s0 : State} {A0 : Array Value} {D : va_G} {ta : Nat → ClassId} {l : Launch} {M pc np index f : Nat} (d : decode (xbytes M) pc = .ok (.putfield index, 3)) (hp : pc + 3 = np) (L : LinkOK s0 A0 (xname M).cls index f) (hk : xfk f = 1) (hd : parseFieldDescriptor (xfr f).2.2.1 = some .boolean) (hfin : xFin M f) : ActOK s0 A0 D ta l M pc (xaPutZ f np) := by
  intro ls st h g pc' ls' st' h' ha hg
  subst hp
  unfold xaPutZ at ha
  split at ha
  · next z a r =>
    cases ha
    refine ⟨Int.le_refl _, Int.le_refl _, ?_⟩
    intro p e R s m args below meth c G F hf hl Q H locs cells slots lsM C _ _ kw
    obtain ⟨oz, o2⟩ := xokS_c C.2.2.2.2
    have hz : z = 0 ∨ z = 1 := by have := hg.2; omega
    have key := xput_W (z := z) (rest := st'.map xcv) (lsM := lsM) (e := e) (R := R) (below := below) (cells := cells) (slots := slots) (Q := Q) G F L C.1 C.2.1 hg.1 d hd (by rw [hk]; rcases hz with rfl | rfl <;> rfl) (by rw [hk]; rcases hz with rfl | rfl <;> rfl) (by rw [hk]; exact hg.2) hfin (fun H' locs' hr hlo => kw H' locs' cells slots lsM (xst_cfH C (xokS_c o2).2 hr hlo) rfl rfl)
    rw [hk] at key
    exact key
  · cases ha
theorem x8 {z : Int} (h : -128 ≤ z ∧ z ≤ 127) : (Int32.ofInt z).toInt8.toInt32 = Int32.ofInt z ∧ fits .byte (.int (Int32.ofInt z)) = true := by
  have oz : xok (.inl z) := ⟨by omega, by omega⟩
  refine ⟨?_, ?_⟩
  · rw [Int32.toInt8_ofInt]
    apply Int32.toInt_inj.mp
    rw [Int8.toInt_toInt32, x32 oz]
    exact Int8.toInt_ofInt_of_le h.1 (by omega)
  · have a1 : (-128 : Int32) ≤ Int32.ofInt z := by rw [Int32.le_iff_toInt_le, x32 oz]; exact h.1
    have a2 : Int32.ofInt z ≤ 127 := by rw [Int32.le_iff_toInt_le, x32 oz]; exact h.2
    simp [fits, a1, a2]
theorem ok_putB {s0 : State} {A0 : Array Value} {D : va_G} {ta : Nat → ClassId} {l : Launch} {M pc np index f : Nat} (d : decode (xbytes M) pc = .ok (.putfield index, 3)) (hp : pc + 3 = np) (L : LinkOK s0 A0 (xname M).cls index f) (hk : xfk f = 2) (hd : parseFieldDescriptor (xfr f).2.2.1 = some .byte) (hfin : xFin M f) : ActOK s0 A0 D ta l M pc (xaPutB f np) := by
  intro ls st h g pc' ls' st' h' ha hg
  subst hp
  unfold xaPutB at ha
  split at ha
  · next z a r =>
    cases ha
    refine ⟨Int.le_refl _, Int.le_refl _, ?_⟩
    intro p e R s m args below meth c G F hf hl Q H locs cells slots lsM C _ _ kw
    obtain ⟨oz, o2⟩ := xokS_c C.2.2.2.2
    have key := xput_W (z := z) (rest := st'.map xcv) (lsM := lsM) (e := e) (R := R) (below := below) (cells := cells) (slots := slots) (Q := Q) G F L C.1 C.2.1 hg.1 d hd (by rw [hk]; show Value.int _ = Value.int _; rw [(x8 hg.2).1]) (by rw [hk]; exact (x8 hg.2).2) (by rw [hk]; exact hg.2) hfin (fun H' locs' hr hlo => kw H' locs' cells slots lsM (xst_cfH C (xokS_c o2).2 hr hlo) rfl rfl)
    rw [hk] at key
    exact key
  · cases ha
theorem ok_putJ {s0 : State} {A0 : Array Value} {D : va_G} {ta : Nat → ClassId} {l : Launch} {M pc np index f : Nat} (d : decode (xbytes M) pc = .ok (.putfield index, 3)) (hp : pc + 3 = np) (L : LinkOK s0 A0 (xname M).cls index f) (hk : xfk f = 3) (hd : parseFieldDescriptor (xfr f).2.2.1 = some .long) (hfin : xFin M f) : ActOK s0 A0 D ta l M pc (xaPutJ f np) := by
  intro ls st h g pc' ls' st' h' ha hg
  subst hp
  unfold xaPutJ at ha
  split at ha
  · next z a r =>
    cases ha
    refine ⟨Int.le_refl _, Int.le_refl _, ?_⟩
    intro p e R s m args below meth c G F hf hl Q H locs cells slots lsM C _ _ kw
    obtain ⟨oz, o2⟩ := xokS_c C.2.2.2.2
    have key := xput_W (z := z) (rest := st'.map xcv) (lsM := lsM) (e := e) (R := R) (below := below) (cells := cells) (slots := slots) (Q := Q) G F L C.1 C.2.1 hg d hd (by rw [hk]; rfl) (by rw [hk]; rfl) (by rw [hk]; exact oz) hfin (fun H' locs' hr hlo => kw H' locs' cells slots lsM (xst_cfH C (xokS_c o2).2 hr hlo) rfl rfl)
    rw [hk] at key
    exact key
  · cases ha
theorem ok_putA {s0 : State} {A0 : Array Value} {D : va_G} {ta : Nat → ClassId} {l : Launch} {M pc np index f : Nat} {ty : FieldType} (d : decode (xbytes M) pc = .ok (.putfield index, 3)) (hp : pc + 3 = np) (L : LinkOK s0 A0 (xname M).cls index f) (hk : xfk f = 4) (hd : parseFieldDescriptor (xfr f).2.2.1 = some ty) (hty : (∃ n, ty = .object n) ∨ ∃ t, ty = .array t) (hfin : xFin M f) : ActOK s0 A0 D ta l M pc (xaPutA f np) := by
  intro ls st h g pc' ls' st' h' ha hg
  subst hp
  unfold xaPutA at ha
  split at ha
  · next z a r =>
    cases ha
    refine ⟨Int.le_refl _, Int.le_refl _, ?_⟩
    intro p e R s m args below meth c G F hf hl Q H locs cells slots lsM C _ _ kw
    obtain ⟨oz, o2⟩ := xokS_c C.2.2.2.2
    have h1 : narrow ty (xrv z) = xrv z ∧ fits ty (xrv z) = true := by
      rcases hty with ⟨n, rfl⟩ | ⟨t, rfl⟩ <;> rcases xrv_0 oz with ⟨q, -⟩ | ⟨b, q, -⟩ <;> rw [q] <;> exact ⟨rfl, rfl⟩
    have key := xput_W (z := z) (rest := st'.map xcv) (lsM := lsM) (e := e) (R := R) (below := below) (cells := cells) (slots := slots) (Q := Q) G F L C.1 C.2.1 hg d hd (by rw [hk]; exact h1.1) (by rw [hk]; exact h1.2) (by rw [hk]; exact oz) hfin (fun H' locs' hr hlo => kw H' locs' cells slots lsM (xst_cfH C (xokS_c o2).2 hr hlo) rfl rfl)
    rw [hk] at key
    exact key
  · cases ha
