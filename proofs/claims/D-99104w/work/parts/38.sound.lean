/-! THE MINI-MACHINE IS SOUND, 8: objects -/
set_option maxRecDepth 100000
set_option maxHeartbeats 4000000
theorem xwords_sum : ∀ r : XS, ((r.map xcv).map fun v => v.category).sum = xwords r := by
  intro r
  induction r with
  | nil => rfl
  | cons v r ih =>
    show (xcv v).category + ((r.map xcv).map fun v => v.category).sum = _
    rw [ih, xcv_cat]
    show _ = (match xc1 v with
      | true => 1
      | false => 2) + xwords r
    cases xc1 v <;> rfl
/-- a new object's fields -/
def xdefOK : Bool := (List.range xfrT.length).all fun f => match parseFieldDescriptor (xfr f).2.2.1 with
  | some ty => decide (defaultValue ty = xkv (xfk f) 0)
  | none => false
theorem xdef_ok : xdefOK = true := by decide +kernel
theorem xkok0 (k : Nat) : xkok k 0 := by
  match k with
  | 0 => exact ⟨by decide, by decide⟩
  | 1 => exact ⟨by decide, by decide⟩
  | 2 => exact ⟨by decide, by decide⟩
  | 3 => exact ⟨by decide, by decide⟩
  | k + 4 => exact Int.le_refl 0
def xinR : Bool := (List.range 18).all fun c => (xcf c).all fun f => decide (f < xfrT.length)
theorem xin_R : xinR = true := by decide +kernel
theorem ok_newo {s0 : State} {A0 : Array Value} {D : va_G} {ta : Nat → ClassId} {l : Launch} {M pc np index cc n : Nat} {q : vw_C} (d : decode (xbytes M) pc = .ok (.new index, 3)) (hp : pc + 3 = np) (hq : xcl[cc]? = some q) (q1 : Cond.classLink (xname M).cls index q.1 ∈ lw_all) (q2 : Cond.instantiable q.1 n ∈ lw_all) (q3 : Cond.initialized q.1 ∈ lw_all) : ActOK s0 A0 D ta l M pc (x01 (xaNewO cc n np)) := by
  intro ls st h g pc' ls' st' h' ha hg
  replace ha := x01_of ha
  subst hp
  unfold xaNewO at ha
  cases ha
  refine ⟨by show xsz h ≤ xsz h + 1; omega, by show xsl h ≤ xsl h + n; omega, ?_⟩
  intro p e R s m args below meth c G F hf hl Q H locs cells slots lsM C hcc hss kw
  have hc : (cells : Int) + 1 ≤ R.cells := by have : xsz (xnewo h cc n) = xsz h + 1 := rfl; omega
  have hs : (slots : Int) + n ≤ R.slots := by have : xsl (xnewo h cc n) = xsl h + n := rfl; omega
  have hW := F.2.2.2.2.2.2.2.2.1
  have hts := F.2.2.2.2.2.2.2.1
  have hc18 : cc < 18 := (List.getElem?_eq_some_iff.mp hq).1
  obtain ⟨hS, hfc, kC', hkC', hkind⟩ := xkn G hW hq
  obtain ⟨q', hq', n2, n3⟩ := xtab hc18
  rw [hq] at hq'
  cases hq'
  refine W.newcK F.1 F.2.1 F.2.2.2.2.2.1 (hts _ q1) (hts _ q2) (hts _ q3) rfl d (by omega) (by omega) hfc rfl fun H' kC hkC f3 f1 f2 => ?_
  have hz : xsz h = (H.size : Int) + 1 := C.1.2.2.1
  have hr : XRel s0 D ta (xnewo h cc n) H' := by
    refine C.1.add rfl (fun z hz => ?_) (t := (true, cc, none)) ?_ rfl (fun z hz => ⟨?_, rfl⟩) f1 f2 f3 ?_
    · show (if z = xsz h then _ else _) = _
      rw [if_neg hz]
      rfl
    · show (if xsz h = xsz h then _ else _) = _
      rw [if_pos rfl]
    · funext f
      show (if z = xsz h then 0 else xfl h z f) = _
      rw [if_neg hz]
    · refine ⟨(fun z => by cases z), rfl, fun _ => rfl, rfl, hc18, fun k f hkf => ?_⟩
      have e1 : xfl (xnewo h cc n) (xsz h) f = 0 := by
        show (if xsz h = xsz h then 0 else _) = (0 : Int)
        rw [if_pos rfl]
      rw [e1]
      refine ⟨?_, xkok0 _⟩
      have hkN : k < q.2.2 := by rw [n2]; exact (List.getElem?_eq_some_iff.mp hkf).1
      obtain ⟨cf, kf, fi, fd, hi, hsl⟩ := hS k hkN
      have h3 := (u_facts hfc hkC (u_lays hts (xlays hq) hkN) hi).2.2
      rw [n3 k f hkf] at hi
      have hfl : f < xfrT.length := by
        have g1 := List.all_eq_true.mp xin_R cc (List.mem_range.mpr hc18)
        have g2 := List.all_eq_true.mp g1 f (List.mem_of_getElem? hkf)
        simpa using g2
      have g3 := List.all_eq_true.mp xdef_ok f (List.mem_range.mpr hfl)
      split at g3
      · next ty hty =>
        simp only [decide_eq_true_eq] at g3
        rw [(State.fieldFound?_type hi hty).2] at h3
        rw [← hsl, ← g3]
        exact k2_blank h3
      · cases g3
  have kz := kw H' locs (cells + 1) (slots + n) lsM (xst_cfH C (xokS_k (show 0 ≤ xsz h by omega) C.2.2.2.2) hr C.2.1) (by show ((cells + 1 : Nat) : Int) - (xsz h + 1) = _; omega) (by show ((slots + n : Nat) : Int) - (xsl h + n) = _; omega)
  have kz : W p l e R s m args below meth c H' locs (cells + 1) (slots + n) Q (F0 m (pc + 3) lsM (xrv (xsz h) :: st.map xcv)) := kz
  rw [xrv_pos hz] at kz
  exact kz
theorem xnull {s0 : State} {D : va_G} {ta : Nat → ClassId} {h : XH} {H : Heap} (hR : XRel s0 D ta h H) : xty h 0 = none := by
  cases e : xty h 0 with
  | none => rfl
  | some t =>
    obtain ⟨b, cell, e1, -⟩ := hR.2.2.2.1 0 t e
    omega
/-- an object as it stands in the heap -/
theorem xobj {s0 s : State} {A0 : Array Value} {D : va_G} {ta : Nat → ClassId} {l : Launch} (G : XG s0 A0 D ta l) (hW : s0.WarmedH s.vm) {h : XH} {H : Heap} {a : Int} {w : Bool} {cc : Nat} (hR : XRel s0 D ta h H) (ht : xty h a = some (w, cc, none)) : ∃ (b : Nat) (cell : Cell) (q : vw_C), a = (b : Int) + 1 ∧ H[b]? = some cell ∧ cell.vm.isStatics = false ∧ cell.cls = D.1 cc ∧ xcl[cc]? = some q ∧ ClassAt s q.1 (D.1 cc) ∧ s.vm.findClass q.1 = some cell.cls ∧ (w = true → cell.vm = .none) := by
  obtain ⟨b, cell, e1, e2, -, y1, y2, y3, y4, y5, -⟩ := hR.2.2.2.1 a _ ht
  obtain ⟨q, q1, -⟩ := xtab y5
  have h1 := (xkn G hW q1).2
  exact ⟨b, cell, q, e1, e2, y2, y4, q1, h1, by rw [y4]; exact h1.1, y3⟩
theorem ok_inst {s0 : State} {A0 : Array Value} {D : va_G} {ta : Nat → ClassId} {l : Launch} {M pc np index cy : Nat} {no : List Nat} {q : vw_C} (d : decode (xbytes M) pc = .ok (.instanceof index, 3)) (hp : pc + 3 = np) (hq : xcl[cy]? = some q) (q1 : Cond.classLink (xname M).cls index q.1 ∈ lw_all) (hno : ∀ c : Nat, no.any (fun g => Nat.beq g c) = true → c ≠ cy ∧ ∃ q' : vw_C, xcl[c]? = some q' ∧ (XG s0 A0 D ta l → va_Nc q'.1 q.1 s0)) : ActOK s0 A0 D ta l M pc (xaInst [cy] no np) := by
  intro ls st h g pc' ls' st' h' ha hg
  subst hp
  unfold xaInst at ha
  split at ha
  · next a r =>
    cases ha
    refine ⟨Int.le_refl _, Int.le_refl _, ?_⟩
    intro p e R s m args below meth c G F hf hl Q H locs cells slots lsM C _ _ kw
    have hW := F.2.2.2.2.2.2.2.2.1
    have hts := F.2.2.2.2.2.2.2.1
    obtain ⟨oa, o2⟩ := xokS_c C.2.2.2.2
    show W p l e R s m args below meth c H locs cells slots Q (F0 m pc lsM (xrv a :: r.map xcv))
    rcases hg with h0 | ⟨w, cc, ht, hin⟩
    · subst h0
      rw [xnull C.1] at kw
      exact lv_instN F.1 F.2.1 d (kw H locs cells slots lsM (xst_cf0 C (xokS_k xok0 o2)) rfl rfl)
    · obtain ⟨b, cell, q', e1, e2, e3, e4, e5, e6, e7, -⟩ := xobj G hW C.1 ht
      rw [ht] at kw
      rw [xrv_pos e1]
      by_cases hc : cc = cy
      · subst hc
        rw [hq] at e5
        cases e5
        have e8 : xinsT [cc] (some (w, cc, none)) = 1 := by simp [xinsT]
        rw [e8] at kw
        exact va_instS F.1 F.2.1 F.2.2.2.2.2.1 (hts _ q1) e6 ⟨cell, e2, e3, e7⟩ d (kw H locs cells slots lsM (xst_cf0 C (xokS_k (show _ ∧ _ from ⟨by decide, by decide⟩) o2)) rfl rfl)
      · have e8 : xinsT [cy] (some (w, cc, none)) = 0 := by
          have e9 : Nat.beq cy cc = false := by
            cases e9 : Nat.beq cy cc with
            | true => exact absurd (Nat.eq_of_beq_eq_true e9).symm hc
            | false => rfl
          simp [xinsT, e9]
        rw [e8] at kw
        rw [List.any_append, Bool.or_eq_true] at hin
        rcases hin with hin | hin
        · simp only [List.any_cons, List.any_nil, Bool.or_false] at hin
          exact absurd (Nat.eq_of_beq_eq_true hin).symm hc
        · obtain ⟨-, q'', g1, g2⟩ := hno cc hin
          rw [g1] at e5
          cases e5
          exact va_instNo F.1 F.2.1 F.2.2.2.2.2.1 (hts _ q1) (va_Nc.moved hW.alike (g2 G)) ⟨cell, e2, e3, e7⟩ d (kw H locs cells slots lsM (xst_cf0 C (xokS_k xok0 o2)) rfl rfl)
  · cases ha
theorem ok_cast {s0 : State} {A0 : Array Value} {D : va_G} {ta : Nat → ClassId} {l : Launch} {M pc np index cy : Nat} {q : vw_C} (d : decode (xbytes M) pc = .ok (.checkcast index, 3)) (hp : pc + 3 = np) (hq : xcl[cy]? = some q) (q1 : Cond.classLink (xname M).cls index q.1 ∈ lw_all) : ActOK s0 A0 D ta l M pc (xaCast [cy] np) := by
  intro ls st h g pc' ls' st' h' ha hg
  subst hp
  unfold xaCast at ha
  split at ha
  · next a r =>
    cases ha
    refine ⟨Int.le_refl _, Int.le_refl _, ?_⟩
    intro p e R s m args below meth c G F hf hl Q H locs cells slots lsM C _ _ kw
    obtain ⟨w, cc, ht, hin⟩ := hg
    simp only [List.any_cons, List.any_nil, Bool.or_false] at hin
    have hc := Nat.eq_of_beq_eq_true hin
    subst hc
    obtain ⟨b, cell, q', e1, e2, e3, e4, e5, e6, e7, -⟩ := xobj G F.2.2.2.2.2.2.2.2.1 C.1 ht
    rw [hq] at e5
    cases e5
    have kz := kw H locs cells slots lsM C rfl rfl
    have kz : W p l e R s m args below meth c H locs cells slots Q (F0 m (pc + 3) lsM (xrv a :: r.map xcv)) := kz
    show W p l e R s m args below meth c H locs cells slots Q (F0 m pc lsM (xrv a :: r.map xcv))
    rw [xrv_pos e1] at kz ⊢
    exact va_castS F.1 F.2.1 F.2.2.2.2.2.1 (F.2.2.2.2.2.2.2.1 _ q1) e6 ⟨cell, e2, e3, e7⟩ d kz
  · cases ha
theorem ok_castB {s0 : State} {A0 : Array Value} {D : va_G} {ta : Nat → ClassId} {l : Launch} {M pc np index : Nat} (d : decode (xbytes M) pc = .ok (.checkcast index, 3)) (hp : pc + 3 = np) (q1 : Cond.classLink (xname M).cls index "[B" ∈ lw_all) : ActOK s0 A0 D ta l M pc (xaCastA 1 np) := by
  intro ls st h g pc' ls' st' h' ha hg
  subst hp
  unfold xaCastA at ha
  split at ha
  · next a r =>
    cases ha
    refine ⟨Int.le_refl _, Int.le_refl _, ?_⟩
    intro p e R s m args below meth c G F hf hl Q H locs cells slots lsM C _ _ kw
    obtain ⟨n, ht⟩ := hg
    have hW := F.2.2.2.2.2.2.2.2.1
    obtain ⟨b, cell, e1, e2, eb, x1, x2, x3, x4, x5, x6, x7, x8⟩ := xarr C.1 hW ht
    have kz := kw H locs cells slots lsM C rfl rfl
    have kz : W p l e R s m args below meth c H locs cells slots Q (F0 m (pc + 3) lsM (xrv a :: r.map xcv)) := kz
    show W p l e R s m args below meth c H locs cells slots Q (F0 m pc lsM (xrv a :: r.map xcv))
    rw [xrv_pos e1] at kz ⊢
    have hP : va_P D xcl [(b, .inl (ta 1, n.toNat, .inl (fun j => Int32.ofInt (xar h a j))))] H := by
      intro k q hk
      cases k with
      | zero =>
        cases hk
        show H[b]? = some (vp_cell _ _)
        rw [e2, x7 rfl]
        rfl
      | succ k => cases hk
    have hra := (G.2.2.1 1 (by decide)).2.moved hW.alike
    exact va_castA F.1 F.2.1 F.2.2.2.2.2.1 (F.2.2.2.2.2.2.2.1 _ q1) hP 0 rfl hra d kz
  · cases ha
theorem ok_obj {s0 : State} {A0 : Array Value} {D : va_G} {ta : Nat → ClassId} {l : Launch} {M pc np index : Nat} (d : decode (xbytes M) pc = .ok (.invokespecial index, 3)) (hp : pc + 3 = np) (q1 : Cond.methodLink (xname M).cls index objectInit ∈ lw_all) (q2 : Cond.instanceMethod objectInit ∈ lw_all) (q3 : Cond.code objectInit ⟨#[0xb1]⟩ 1 none ∈ lw_all) : ActOK s0 A0 D ta l M pc (xaObj np) := by
  intro ls st h g pc' ls' st' h' ha hg
  subst hp
  unfold xaObj at ha
  split at ha
  · next a r =>
    split at ha
    · next hb =>
      cases ha
      refine ⟨Int.le_refl _, Int.le_refl _, ?_⟩
      intro p e R s m args below meth c G F hf hl Q H locs cells slots lsM C _ _ kw
      have hts := F.2.2.2.2.2.2.2.1
      have hw : xwords st' ≤ 8 := Nat.le_of_ble_eq_true hb
      obtain ⟨oa, o2⟩ := xokS_c C.2.2.2.2
      show W p l e R s m args below meth c H locs cells slots Q (F0 m pc lsM (xrv a :: st'.map xcv))
      have hcat := xwords_sum st'
      obtain ⟨w, cc, ht⟩ := hg
      obtain ⟨b, cell, q', e1, -⟩ := xobj G F.2.2.2.2.2.2.2.2.1 C.1 ht
      · rw [xrv_pos e1]
        exact W.objInit F.1 F.2.1 F.2.2.2.2.2.1 (hts _ q1) (hts _ q2) (hts _ q3) rfl (by rw [F.2.2.2.2.1]; exact C.2.2.1.1.1) rfl d (by omega) (by rw [hcat]; show 2 * 0 + xwords st' + 12 ≤ R.locals; omega) (kw H locs cells slots lsM (xst_cf0 C o2) rfl rfl)
    · cases ha
  · cases ha
