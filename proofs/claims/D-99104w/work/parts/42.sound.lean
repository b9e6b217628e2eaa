/-! THE MINI-MACHINE IS SOUND, 12: System.arraycopy; an exception that is made -/
set_option maxRecDepth 100000
set_option maxHeartbeats 4000000
theorem ok_copy {s0 : State} {A0 : Array Value} {D : va_G} {ta : Nat → ClassId} {l : Launch} {M pc np index : Nat} (d : decode (xbytes M) pc = .ok (.invokestatic index, 3)) (hp : pc + 3 = np) (q1 : Cond.methodLink (xname M).cls index arraycopyName ∈ lw_all) : ActOK s0 A0 D ta l M pc (xaCopy np) := by
  intro ls st h g pc' ls' st' h' ha hg
  subst hp
  unfold xaCopy at ha
  split at ha
  · next n dp dd sp ss r =>
    split at ha
    · next hw =>
      cases ha
      refine ⟨Int.le_refl _, Int.le_refl _, ?_⟩
      intro p e R s m args below meth c G F hf hl Q H locs cells slots lsM C _ _ kw
      have hW := F.2.2.2.2.2.2.2.2.1
      have hts := F.2.2.2.2.2.2.2.1
      obtain ⟨on, o2⟩ := xokS_c C.2.2.2.2
      obtain ⟨odp, o3⟩ := xokS_c o2
      obtain ⟨od, o4⟩ := xokS_c o3
      obtain ⟨osp, o5⟩ := xokS_c o4
      obtain ⟨os, orr⟩ := xokS_c o5
      obtain ⟨w, n0, n1, t0, t1, a1, a2, a3, a4, a5⟩ := hg
      obtain ⟨b0, c0, e01, e02, -, y01, y02, y03, y04, y05, y06, -, -⟩ := xarr C.1 hW t0
      obtain ⟨b1, c1, e11, e12, e13, y11, y12, y13, y14, y15, y16, y17, y18⟩ := xarr C.1 hW t1
      obtain ⟨i11, k0, i12, cm0, i13⟩ := y01
      obtain ⟨i21, k1, i22, cm1, i23⟩ := y11
      have xsp : (Int32.ofInt sp).toInt = sp := x32 osp
      have xdp : (Int32.ofInt dp).toInt = dp := x32 odp
      have xn : (Int32.ofInt n).toInt = n := x32 on
      have tsp : (Int32.ofInt sp).toNatClampNeg = sp.toNat := by show (Int32.ofInt sp).toInt.toNat = _; rw [xsp]
      have tdp : (Int32.ofInt dp).toNatClampNeg = dp.toNat := by show (Int32.ofInt dp).toInt.toNat = _; rw [xdp]
      have tn : (Int32.ofInt n).toNatClampNeg = n.toNat := by show (Int32.ofInt n).toInt.toNat = _; rw [xn]
      have hcs : ∀ j, j < n0.toNat → c0.slots[j]? = some (xev 0 (xar h ss j)) := fun j hj => (y06 j (by omega)).1
      show W p l e R s m args below meth c H locs cells slots Q (F0 m pc lsM (.int (Int32.ofInt n) :: .int (Int32.ofInt dp) :: xrv dd :: .int (Int32.ofInt sp) :: xrv ss :: st'.map xcv))
      rw [xrv_pos e11, xrv_pos e01]
      intro T hT X
      obtain ⟨vm', X', step⟩ := X.arraycopy F.1 F.2.2.2.2.2.1 (hts _ q1) (hts _ q1070) (hts _ q1069) (hts _ q138) (src := b0) (dst := b1) (cs := c0) (cd := c1) (srcPos := Int32.ofInt sp) (destPos := Int32.ofInt dp) (n := Int32.ofInt n) (by rw [hT]; exact e02) (by rw [hT]; exact e12)
        i11 i21 y02 y12 i12 i22 i13 i23 (by decide) (fun q => by have := (xlt osp xok0).mp q; omega) (fun q => by have := (xlt odp xok0).mp q; omega) (fun q => by have := (xlt on xok0).mp q; omega)
        (by rw [xsp, xn]; have := y05.1; omega) (by rw [xdp, xn]; have := y15.1; omega)
        (fun vm₁ _ i hi => by
          rw [tn] at hi
          have ee : c0.slots.getD ((Int32.ofInt sp).toNatClampNeg + i) .null = .int (Int32.ofInt (xar h ss ((sp.toNat + i : Nat) : Int))) := by
            rw [Array.getD_eq_getD_getElem?, tsp, hcs _ (by omega)]
            rfl
          rw [ee]
          exact ⟨rfl, trivial⟩)
        (g := F0 m pc lsM (.int (Int32.ofInt n) :: .int (Int32.ofInt dp) :: .ref b1 :: .int (Int32.ofInt sp) :: .ref b0 :: st'.map xcv)) rfl (by rw [F.2.2.2.2.1]; exact C.2.2.1.1.1) (rest := st'.map xcv) rfl (by rw [F.2.1]; exact d) (by omega)
        (by
          have h1 := xwords_sum st'
          have h2 : nativeFrameWords "java/lang/System" "arraycopy" 5 ≤ 100 := by decide +kernel
          have h3 : xwords st' ≤ 8 := Nat.le_of_ble_eq_true hw
          show 2 * 0 + _ + _ ≤ _
          omega)
      have hg' : (fun j : Nat => xev 0 (xar (xcopy h ss sp dd dp n) dd (j : Int))) = (fun j : Nat => xev 0 (va_cpy (fun j : Nat => xar h ss (j : Int)) (fun j : Nat => xar h dd (j : Int)) sp.toNat dp.toNat n.toNat j)) := by
        funext j
        congr 1
        show (if dd = dd ∧ dp ≤ (j : Int) ∧ (j : Int) < dp + n then xar h ss (sp + ((j : Int) - dp)) else xar h dd j) = (if dp.toNat ≤ j ∧ j < dp.toNat + n.toNat then xar h ss ((sp.toNat + (j - dp.toNat) : Nat) : Int) else xar h dd j)
        by_cases q : dp ≤ (j : Int) ∧ (j : Int) < dp + n
        · rw [if_pos ⟨rfl, q⟩, if_pos (by omega)]
          congr 1
          omega
        · rw [if_neg (fun w => q w.2), if_neg (by omega)]
      have e1 : copied c0 c1 (Int32.ofInt sp) (Int32.ofInt dp) (Int32.ofInt n) = arrV (ta 0) n1.toNat (fun j => xev 0 (xar (xcopy h ss sp dd dp n) dd j)) := by
        show c1.storeRun (Int32.ofInt dp).toNatClampNeg (c0.stretch (Int32.ofInt sp).toNatClampNeg (Int32.ofInt n).toNatClampNeg) = _
        rw [tsp, tdp, tn, y17 rfl, hg']
        exact va_copiedX (fun z : Int => xev 0 z) c0 (ta 0) (fun j : Nat => xar h ss (j : Int)) (fun j : Nat => xar h dd (j : Int)) hcs (by omega)
      rw [e1] at X' step
      have hl : b1 < H.size := (Array.getElem?_eq_some_iff.mp e12).1
      have hheap : ((T.setVm vm').setCell b1 (arrV (ta 0) n1.toNat (fun j => xev 0 (xar (xcopy h ss sp dd dp n) dd j)))).heap = H.setIfInBounds b1 (arrV (ta 0) n1.toNat (fun j => xev 0 (xar (xcopy h ss sp dd dp n) dd j))) := by rw [← hT]; rfl
      have hr : XRel s0 D ta (xcopy h ss sp dd dp n) (H.setIfInBounds b1 (arrV (ta 0) n1.toNat (fun j => xev 0 (xar (xcopy h ss sp dd dp n) dd j)))) := by
        refine C.1.upd (cell := arrV (ta 0) n1.toNat (fun j => xev 0 (xar (xcopy h ss sp dd dp n) dd j))) t1 e11 (e13 rfl) rfl rfl rfl (fun z' hz' => ⟨rfl, ?_⟩) (by simp) (fun q hq => by simp [Array.getElem?_setIfInBounds, Ne.symm hq]) (show (H.setIfInBounds b1 _)[b1]? = some _ by simp [Array.getElem?_setIfInBounds, hl]) ?_
        · funext i'
          show (if z' = dd ∧ dp ≤ i' ∧ i' < dp + n then xar h ss (sp + (i' - dp)) else xar h z' i') = _
          rw [if_neg (fun w => hz' w.1)]
        · refine xarr_mk G y18 y13 y14 fun j hj => ?_
          show xeok 0 (if dd = dd ∧ dp ≤ (j : Int) ∧ (j : Int) < dp + n then xar h ss (sp + ((j : Int) - dp)) else xar h dd j)
          by_cases q : dd = dd ∧ dp ≤ (j : Int) ∧ (j : Int) < dp + n
          · rw [if_pos q]
            have h1 := (y06 (sp + ((j : Int) - dp)).toNat (by omega)).2
            rw [show (((sp + ((j : Int) - dp)).toNat : Nat) : Int) = sp + ((j : Int) - dp) by omega] at h1
            exact h1
          · rw [if_neg q]
            exact (y16 j hj).2
      have kz := kw _ (locs ++ (c0.stretch (Int32.ofInt sp).toNatClampNeg (Int32.ofInt n).toNatClampNeg).zipIdx.map fun q => ⟨b1, (Int32.ofInt dp).toNatClampNeg + q.2⟩) cells slots lsM (xst_cfH C orr hr (fun q hq => by
        rcases List.mem_append.mp hq with h | h
        · exact C.2.1 q h
        · obtain ⟨z, -, hz⟩ := List.mem_map.mp h
          rw [← hz]
          exact e13 rfl)) rfl rfl
      obtain ⟨t, a1, b1'⟩ := kz _ hheap X'
      exact ⟨t, step t a1, b1'⟩
    · cases ha
  · cases ha
/-- the words of 'new NoSuchElementException()' -/
def xNoWords : List Cond := Cond.classLink "WrongRoom" 348 "java/util/NoSuchElementException" :: Cond.initialized "java/util/NoSuchElementException" :: vx_at0 "WrongRoom" 350 "java/util/NoSuchElementException" ["java/lang/RuntimeException", "java/lang/Exception"]
abbrev xNoE : String := "java/util/NoSuchElementException"
def xNoK (w : Cond) : Bool := match w with
  | .declares _ => true
  | .castable _ _ => true
  | w => goodWord w
theorem xNo_all : (xNoWords.all fun w => lw_tbl.contains w && (vx_ot w && xNoK w)) = true := by decide +kernel
theorem xNo_in {s0 s : State} {A0 A : Array Value} (h0 : ∀ w ∈ lw_tbl, w.before A0 s0 = true) (hW : s0.WarmedH s.vm) (hts : ∀ w ∈ lw_all, w.before A s = true) : ∀ w ∈ xNoWords, w.before A s = true ∧ vx_ot w = true := fun w hw => by
  have h1 := List.all_eq_true.mp xNo_all w hw
  simp only [Bool.and_eq_true] at h1
  obtain ⟨a, b, c⟩ := h1
  have a : w ∈ lw_tbl := by simpa using a
  refine ⟨?_, b⟩
  unfold xNoK at c
  split at c
  · exact va_Nw.use rfl (va_Nw.warmD hW (va_Nw.of rfl (h0 _ a)))
  · exact va_Nw.use rfl (va_Nw.warmC hW (va_Nw.of rfl (h0 _ a)))
  · exact hts _ (List.mem_filter.mpr ⟨a, c⟩)
/-- a heap that has grown by one cell, of which nothing else has changed -/
theorem ok_make0 {s0 : State} {A0 : Array Value} {D : va_G} {ta : Nat → ClassId} {l : Launch} {M pc : Nat} (hown : (xname M).cls = "WrongRoom") (d0 : decode (xbytes M) pc = .ok (.new 348, 3)) (d3 : decode (xbytes M) (pc + 3) = .ok (.dup, 1)) (d4 : decode (xbytes M) (pc + 4) = .ok (.invokespecial 350, 3)) : ActOK s0 A0 D ta l M pc (x01 (xaNewE 17 6 (pc + 7))) := by
  intro ls st h g pc' ls' st' h' ha hg
  replace ha := x01_of ha
  obtain ⟨hw8, ha⟩ : xwords st ≤ 8 ∧ some (pc + 7, ls, Sum.inr (Sum.inr (xsz h)) :: st, xnewo h 17 6) = some (pc', ls', st', h') := by
    unfold xaNewE at ha
    split at ha
    · next hw8 => exact ⟨Nat.le_of_ble_eq_true hw8, ha⟩
    · cases ha
  cases ha
  refine ⟨by show xsz h ≤ xsz h + 1; omega, by show xsl h ≤ xsl h + 6; omega, ?_⟩
  intro p e R s m args below meth c G F hf hl Q H locs cells slots lsM C hcc hss kw
  have hRcells : (cells : Int) + 1 ≤ R.cells := by have : xsz (xnewo h 17 6) = xsz h + 1 := rfl; omega
  have hRslots : (slots : Int) + 6 ≤ R.slots := by have : xsl (xnewo h 17 6) = xsl h + 6 := rfl; omega
  have hW := F.2.2.2.2.2.2.2.2.1
  have hts := F.2.2.2.2.2.2.2.1
  have hl0 := G.2.2.2.1
  intro T hT X
  subst hT
  have htr : e.platform.stackTraces = false := (show e.platform.stackTraces = l.stackTraces by rw [X.admits.platform]).trans hl0
  have Y := vx_rebase X (R' := { frames := R.frames, locals := R.locals, cells := 1, slots := 6 }) (Nat.le_refl _) (Nat.le_refl _) (by show cells + 1 ≤ R.cells; omega) (by show slots + 6 ≤ R.slots; omega)
  obtain ⟨s', hA'⟩ : ∃ z, z = (T.setVm s.vm).setFrames (.invoking m args :: below) := ⟨_, rfl⟩
  rw [← hA'] at Y
  have hvm : s'.vm = s.vm := by rw [hA']; rfl
  have hhp : s'.heap = T.heap := by rw [hA']; rfl
  have hW0 : s.WarmedH s'.vm := by rw [hvm]; exact State.WarmedH.refl s
  have words := xNo_in G.1 hW hts
  have hat' : ∀ w ∈ vx_at0 "WrongRoom" 350 xNoE ["java/lang/RuntimeException", "java/lang/Exception"], w.before args s' = true := fun w hw => by
    obtain ⟨a, b⟩ := words w (List.mem_cons_of_mem _ (List.mem_cons_of_mem _ hw))
    exact vx_ot_at hW0 hvm.symm b a
  have hk' : (Cond.classLink "WrongRoom" 348 xNoE).before args s' = true := by
    obtain ⟨a, b⟩ := words _ List.mem_cons_self
    exact vx_ot_at hW0 hvm.symm b a
  have hini' : (Cond.initialized xNoE).before args s' = true := by
    obtain ⟨a, b⟩ := words _ (List.mem_cons_of_mem _ List.mem_cons_self)
    exact vx_ot_at hW0 hvm.symm b a
  obtain ⟨r1, r2, r3, r4, rc0, -, -, rcU, rcN, -, rlU, rlN⟩ := C.1
  have hqk : ∀ a : Nat, a < s0.heap.size → ¬ s0.heap.size ≤ a → T.heap[a]? = s0.heap[a]? := fun a h1 _ => r1 a h1
  have hU' : vx_Zq Bundle.tN "UNASSIGNED_STACK" Bundle.steD (fun q => s0.heap.size ≤ q) s' s'.heap := by
    have h1 : va_Zq Bundle.tN "UNASSIGNED_STACK" Bundle.steD (fun q => s0.heap.size ≤ q) s0 s0.heap := by
      rcases (show xrv (xcs h 50) = .null ∨ ∃ a : Nat, xrv (xcs h 50) = .ref a from xrv_or _) with e1 | ⟨a, e1⟩
      · rw [e1] at rcU; exact Or.inl rcU
      · rw [e1] at rcU; exact Or.inr ⟨a, rcU⟩
    rw [hhp]
    exact vx_Zq.moved hW0.alike (vx_Zq.moved hW.alike (vx_Zq.kept ⟨h1, rlU⟩ hqk))
  have hN' : vx_Zq Bundle.tN "SUPPRESSED_SENTINEL" Bundle.listD (fun q => s0.heap.size ≤ q) s' s'.heap := by
    have h1 : va_Zq Bundle.tN "SUPPRESSED_SENTINEL" Bundle.listD (fun q => s0.heap.size ≤ q) s0 s0.heap := by
      rcases (show xrv (xcs h 51) = .null ∨ ∃ a : Nat, xrv (xcs h 51) = .ref a from xrv_or _) with e1 | ⟨a, e1⟩
      · rw [e1] at rcN; exact Or.inl rcN
      · rw [e1] at rcN; exact Or.inr ⟨a, rcN⟩
    rw [hhp]
    exact vx_Zq.moved hW0.alike (vx_Zq.moved hW.alike (vx_Zq.kept ⟨h1, rlN⟩ hqk))
  have hw : ∀ w ∈ Bundle.ownAtoms0 "WrongRoom" 350 xNoE ["java/lang/RuntimeException", "java/lang/Exception"], w.before args s' = true := vx_own hat' (vx_isRefq hU'.1) (vx_isRefq hN'.1) hU'.2.word hN'.2.word
  have hown' : s'.vm.findClass "WrongRoom" = some m.cls := by rw [hvm, ← hown]; exact F.2.2.2.2.2.1
  have hins : (Cond.instantiable xNoE 6).before args s' = true := hw _ (by simp [Bundle.ownAtoms0])
  obtain ⟨vm₁, cX, kX, hfX, hkX, -, -, X₁, st1⟩ := Y.newCold F.1 (own := "WrongRoom") (C := xNoE) (index := 348) (n := 6) hown' hk' hins hini'
    (g := F0 m pc lsM (st.map xcv)) rfl (by rw [F.2.1]; exact d0) (Nat.le_refl _) (Nat.le_refl _)
  generalize hT1 : (T.setVm vm₁).pushCell { cls := cX, slots := kX.instanceTypes.map defaultValue, vm := .none } = T1 at X₁ st1
  have hcat : (Value.ref T.heap.size).category = 1 := rfl
  have hcellA : T1.heap[T.heap.size]? = some (freshCell cX kX) := by rw [← hT1]; exact State.heap_pushCell_size _ _
  have d3' : decode c.code (pc + 3) = .ok (.dup, 1) := by rw [F.2.1]; exact d3
  obtain ⟨V, ce, L, Z, hL, hlt, hcl9, hvm9, step⟩ := vx_ctorMade0 X₁ F.1 htr (own := "WrongRoom") (cls := xNoE) (names := ["java/lang/RuntimeException", "java/lang/Exception"]) (ic := 350) hown' (by decide +kernel) (by decide +kernel) hw (fun x hx => nomatch hx) hfX hkX hcellA (by rw [hhp]; exact Nat.le_refl _)
    (g := { method := m, pc := pc + 4, locals := lsM, stack := .ref T.heap.size :: .ref T.heap.size :: st.map xcv, locked := none }) rfl (by rw [F.2.2.2.2.1]; exact C.2.2.1.1.1) (rest := st.map xcv) rfl
    (by rw [F.2.1]; exact d4) (by show 2 + 3 < R.frames; omega) (by
      have h1 := xwords_sum st
      simp only [List.map_cons, List.sum_cons, hcat]
      show 2 * 0 + (1 + _) + (13 * (2 + 1) + 41) ≤ R.locals
      omega)
  have Z0 := Stand.forget (locs := []) Z (fun y hy => by rw [hL y hy, hhp]; exact Nat.le_refl _)
  obtain ⟨f1, f2⟩ := vx_frame Z0.same
  rw [hhp] at f1 f2
  have f4 : (V.setCell T.heap.size ce).heap.size ≤ T.heap.size + 1 := by
    have h1 := Z0.same.2.2.1
    rw [hhp] at h1
    exact h1
  have hh : (V.setCell T.heap.size ce).heap[T.heap.size]? = some ce := heapAt_setCell_self (s := V) ce hlt
  have hlt2 : T.heap.size < (V.setCell T.heap.size ce).heap.size := (Array.getElem?_eq_some_iff.mp hh).1
  obtain ⟨q17, hq17⟩ : ∃ q : vw_C, xcl[17]? = some q := ⟨_, rfl⟩
  have hname : q17.1 = xNoE := by cases hq17; rfl
  have hcid : ce.cls = D.1 17 := by
    rw [hcl9]
    have h1 := (xkn G hW hq17).2.1
    rw [hname, ← hvm] at h1
    exact Option.some.inj (hfX.symm.trans h1)
  subst hA'
  have X5 := vx_back9 X Y Z0
  have X6 : Stand p l e R s m args below meth c (V.setCell T.heap.size ce) locs (cells + 1) (slots + 6) := { X5 with same := X5.same.mono (by omega) (by omega) }
  have hz : xsz h = (T.heap.size : Int) + 1 := r3
  have hr : XRel s0 D ta (xnewo h 17 6) (V.setCell T.heap.size ce).heap := by
    refine C.1.add (cell := ce) rfl (fun z hz => ?_) (t := (true, 17, none)) ?_ rfl (fun z hz => ⟨?_, rfl⟩) (by omega) (fun q hq => f2 q hq (fun z hz => nomatch hz)) hh ?_
    · show (if z = xsz h then _ else _) = _
      rw [if_neg hz]
      rfl
    · show (if xsz h = xsz h then _ else _) = _
      rw [if_pos rfl]
    · funext f
      show (if z = xsz h then 0 else xfl h z f) = _
      rw [if_neg hz]
    · exact ⟨(by rw [hvm9]; exact fun z => nomatch z), (by rw [hvm9]; rfl), fun _ => hvm9, hcid, by decide, fun k f hkf => nomatch (show (none : Option Nat) = some f from hkf)⟩
  have kz := kw (V.setCell T.heap.size ce).heap locs (cells + 1) (slots + 6) lsM (xst_cfH C (xokS_k (show 0 ≤ xsz h by omega) C.2.2.2.2) hr C.2.1) (by show ((cells + 1 : Nat) : Int) - (xsz h + 1) = _; omega) (by show ((slots + 6 : Nat) : Int) - (xsl h + 6) = _; omega)
  have kz : W p l e R s m args below meth c (V.setCell T.heap.size ce).heap locs (cells + 1) (slots + 6) Q (F0 m (pc + 7) lsM (xrv (xsz h) :: st.map xcv)) := kz
  rw [xrv_pos hz] at kz
  obtain ⟨t, a1, b1⟩ := kz _ rfl X6
  refine ⟨t, st1 _ ?_, b1⟩
  show Steps p.tables e below (T1.setTop { method := m, pc := pc + 3, locals := lsM, stack := .ref T.heap.size :: st.map xcv, locked := none }) _
  jvm_step X₁.here [X₁.here.top, F.1, d3', Value.category]
  exact step _ a1
theorem xldcwS {p : Program} {l : Launch} {e : Env} {R : Room} {s : State} {m : MethodId} {args : Array Value} {below : List Frame} {meth : Method} {c : Code} {T : State} {locs : List Loc} {cells slots : Nat}
    (X : Stand p l e R s m args below meth c T locs cells slots) (hexec : p.tables.exec = Jvm.exec) {own text : String} {index : Nat} {a : Addr} (hown : s.vm.findClass own = some m.cls)
    (hconst : (Cond.stringRef own index text).before args s = true) (hev : (Term.string own index).eval args s none [] s = some (.ref a)) {g : JFrame} (hg : g.method = m) (hdg : decode c.code g.pc = .ok (.ldc_w index, 3)) :
    ∀ target, Steps p.tables e below (T.setTop { g with pc := g.pc + 3, stack := .ref a :: g.stack }) target → Steps p.tables e below (T.setTop g) target := by
  obtain ⟨k, cf, i, a', hk, hcf, hcp, -, hr, hev'⟩ := Cond.stringRef_spec hown hconst
  cases hev.symm.trans hev'
  obtain ⟨k', hk', he⟩ := X.warmed.alike.2.2 _ _ hk
  have hr' : k'.resolved[index]? = some (some (.string a)) := by
    rcases X.warmed.entry hk hk' index with h | ⟨h, -⟩
    · rw [h]; exact hr
    · rw [hr] at h; cases h
  intro target hrest
  subst hg
  jvm_step X.here [hexec, hdg, ldc_w.wp_string (e := e) (s := T) (f := g) X.here.top hk' (by rw [he]; exact hcf) hcp hr']
  exact hrest
theorem ok_ldcwS {s0 : State} {A0 : Array Value} {D : va_G} {ta : Nat → ClassId} {l : Launch} {M pc np : Nat} {index i : Nat} {tx : String} (d : decode (xbytes M) pc = .ok (.ldc_w index, 3)) (hp : pc + 3 = np) (hi : xcsT[i]? = some ((xname M).cls, index, tx)) : ActOK s0 A0 D ta l M pc (x01 (xaCst i np)) := by
  intro ls st h g pc' ls' st' h' ha hg
  replace ha := x01_of ha
  subst hp
  unfold xaCst at ha
  cases ha
  refine ⟨Int.le_refl _, Int.le_refl _, ?_⟩
  intro p e R s m args below meth c G F hf hl Q H locs cells slots lsM C _ _ kw
  obtain ⟨a, e1, e2⟩ := C.1.2.2.2.2.2.1 i index _ tx hi
  have kz := kw H locs cells slots lsM (xst_cf0 C (xokS_k (C.1.2.2.2.2.1 i) C.2.2.2.2)) rfl rfl
  have kz : W p l e R s m args below meth c H locs cells slots Q (F0 m (pc + 3) lsM (xrv (xcs h i) :: st.map xcv)) := kz
  rw [xrv_pos e1] at kz
  have hZ := vk_R.warm F.2.2.2.2.2.2.2.2.1 e2
  intro T hT X
  obtain ⟨t, a1, b1⟩ := kz T hT X
  exact ⟨t, xldcwS X F.1 F.2.2.2.2.2.1 (text := tx) (a := a) hZ.1 hZ.2 (g := F0 m pc lsM (st.map xcv)) rfl (by rw [F.2.1]; exact d) t a1, b1⟩
theorem xmc_mmax : Cond.code Lib.Math.max.name Lib.Math.max.code 2 (some .int) ∈ lw_all := q1179
theorem ok_mmax {s0 : State} {A0 : Array Value} {D : va_G} {ta : Nat → ClassId} {l : Launch} {M pc np index : Nat} (d : decode (xbytes M) pc = .ok (.invokestatic index, 3)) (hp : pc + 3 = np) (q1 : Cond.methodLink (xname M).cls index Lib.Math.max.name ∈ lw_all) : ActOK s0 A0 D ta l M pc (x01 (xaMMax np)) := by
  intro ls st h g pc' ls' st' h' ha hg
  replace ha := x01_of ha
  subst hp
  unfold xaMMax at ha
  split at ha
  · next b a r =>
    split at ha
    · next hw =>
      cases ha
      refine ⟨Int.le_refl _, Int.le_refl _, ?_⟩
      intro p e R s m args below meth c G F hf hl Q H locs cells slots lsM C hcc hss kw
      have hts := F.2.2.2.2.2.2.2.1
      obtain ⟨ob, o2⟩ := xokS_c C.2.2.2.2
      obtain ⟨oa, orr⟩ := xokS_c o2
      have oz : xok (.inl (if a < b then b else a)) := by
        split
        · exact ob
        · exact oa
      have kz := kw H locs cells slots lsM (xst_cf0 C (xokS_k oz orr)) rfl rfl
      have hw8 := xwords_sum r
      have hw9 : xwords r ≤ 8 := Nat.le_of_ble_eq_true hw
      refine va_mmax F.1 F.2.1 (by rw [F.2.2.2.2.1]; exact C.2.2.1.1.1.symm) F.2.2.2.2.2.1 (hts _ q1) (hts _ q1178) (hts _ q139) (hts _ xmc_mmax) (by omega) (by rw [hw8]; omega) (by omega) (by omega) d ?_
      have e1 : (if Int32.ofInt a < Int32.ofInt b then Int32.ofInt b else Int32.ofInt a) = Int32.ofInt (if a < b then b else a) := by
        by_cases q : a < b
        · rw [if_pos q, if_pos ((xlt oa ob).mpr q)]
        · rw [if_neg q, if_neg (fun w => q ((xlt oa ob).mp w))]
      rw [e1]
      exact kz
    · cases ha
  · cases ha
theorem xmc_mmin : Cond.code Lib.Math.min.name Lib.Math.min.code 2 (some .int) ∈ lw_all := q1090
theorem ok_mmin {s0 : State} {A0 : Array Value} {D : va_G} {ta : Nat → ClassId} {l : Launch} {M pc np index : Nat} (d : decode (xbytes M) pc = .ok (.invokestatic index, 3)) (hp : pc + 3 = np) (q1 : Cond.methodLink (xname M).cls index Lib.Math.min.name ∈ lw_all) : ActOK s0 A0 D ta l M pc (x01 (xaMMin np)) := by
  intro ls st h g pc' ls' st' h' ha hg
  replace ha := x01_of ha
  subst hp
  unfold xaMMin at ha
  split at ha
  · next b a r =>
    split at ha
    · next hw =>
      cases ha
      refine ⟨Int.le_refl _, Int.le_refl _, ?_⟩
      intro p e R s m args below meth c G F hf hl Q H locs cells slots lsM C hcc hss kw
      have hts := F.2.2.2.2.2.2.2.1
      obtain ⟨ob, o2⟩ := xokS_c C.2.2.2.2
      obtain ⟨oa, orr⟩ := xokS_c o2
      have oz : xok (.inl (if b < a then b else a)) := by
        split
        · exact ob
        · exact oa
      have kz := kw H locs cells slots lsM (xst_cf0 C (xokS_k oz orr)) rfl rfl
      have hw8 := xwords_sum r
      have hw9 : xwords r ≤ 8 := Nat.le_of_ble_eq_true hw
      refine va_mmin F.1 F.2.1 (by rw [F.2.2.2.2.1]; exact C.2.2.1.1.1.symm) F.2.2.2.2.2.1 (hts _ q1) (hts _ q1089) (hts _ q139) (hts _ xmc_mmin) (by omega) (by rw [hw8]; omega) (by omega) (by omega) d ?_
      have e1 : (if Int32.ofInt b < Int32.ofInt a then Int32.ofInt b else Int32.ofInt a) = Int32.ofInt (if b < a then b else a) := by
        by_cases q : b < a
        · rw [if_pos q, if_pos ((xlt ob oa).mpr q)]
        · rw [if_neg q, if_neg (fun w => q ((xlt ob oa).mp w))]
      rw [e1]
      exact kz
    · cases ha
  · cases ha
theorem xmc_mabs : Cond.code Lib.Math.abs.name Lib.Math.abs.code 1 (some .int) ∈ lw_all := q1275
theorem ok_mabs {s0 : State} {A0 : Array Value} {D : va_G} {ta : Nat → ClassId} {l : Launch} {M pc np index : Nat} (d : decode (xbytes M) pc = .ok (.invokestatic index, 3)) (hp : pc + 3 = np) (q1 : Cond.methodLink (xname M).cls index Lib.Math.abs.name ∈ lw_all) : ActOK s0 A0 D ta l M pc (xaMAbs np) := by
  intro ls st h g pc' ls' st' h' ha hg
  subst hp
  unfold xaMAbs at ha
  split at ha
  · next a r =>
    split at ha
    · next hw =>
      cases ha
      refine ⟨Int.le_refl _, Int.le_refl _, ?_⟩
      intro p e R s m args below meth c G F hf hl Q H locs cells slots lsM C hcc hss kw
      have hts := F.2.2.2.2.2.2.2.1
      obtain ⟨oa, orr⟩ := xokS_c C.2.2.2.2
      have oz : xok (.inl (if 0 ≤ a then a else -a)) := by
        have h1 := oa.1
        have h2 := oa.2
        split
        · exact oa
        · exact ⟨by omega, by omega⟩
      have kz := kw H locs cells slots lsM (xst_cf0 C (xokS_k oz orr)) rfl rfl
      have hw8 := xwords_sum r
      have hw9 : xwords r ≤ 8 := Nat.le_of_ble_eq_true hw
      refine va_mabs F.1 F.2.1 (by rw [F.2.2.2.2.1]; exact C.2.2.1.1.1.symm) F.2.2.2.2.2.1 (hts _ q1) (hts _ q1274) (hts _ q139) (hts _ xmc_mabs) (by omega) (by rw [hw8]; omega) (by omega) (by omega) d ?_
      have e1 : (if 0 ≤ Int32.ofInt a then Int32.ofInt a else 0 - Int32.ofInt a) = Int32.ofInt (if 0 ≤ a then a else -a) := by
        have e0 : 0 ≤ Int32.ofInt a ↔ 0 ≤ a := xle xok0 oa
        by_cases q : 0 ≤ a
        · rw [if_pos q, if_pos (e0.mpr q)]
        · rw [if_neg q, if_neg (fun w => q (e0.mp w)), Int32.ofInt_neg]
          simp
      rw [e1]
      exact kz
    · cases ha
  · cases ha
theorem xmc_mabsJ : Cond.code Lib.MathLoose.abs_long.x Lib.MathLoose.abs_long.code 2 (some .long) ∈ lw_all := q1193
theorem ok_mabsJ {s0 : State} {A0 : Array Value} {D : va_G} {ta : Nat → ClassId} {l : Launch} {M pc np index : Nat} (d : decode (xbytes M) pc = .ok (.invokestatic index, 3)) (hp : pc + 3 = np) (q1 : Cond.methodLink (xname M).cls index Lib.MathLoose.abs_long.x ∈ lw_all) : ActOK s0 A0 D ta l M pc (xaMAbsJ np) := by
  intro ls st h g pc' ls' st' h' ha hg
  subst hp
  unfold xaMAbsJ at ha
  split at ha
  · next a r =>
    split at ha
    · next hw =>
      cases ha
      refine ⟨Int.le_refl _, Int.le_refl _, ?_⟩
      intro p e R s m args below meth c G F hf hl Q H locs cells slots lsM C hcc hss kw
      have hts := F.2.2.2.2.2.2.2.1
      obtain ⟨oa, orr⟩ := xokS_c C.2.2.2.2
      have oz : xok (.inr (.inl (if 0 < a then a else -a))) := by
        have h1 := oa.1
        have h2 := oa.2
        split
        · exact oa
        · exact ⟨by omega, by omega⟩
      have kz := kw H locs cells slots lsM (xst_cf0 C (xokS_k oz orr)) rfl rfl
      have hw8 := xwords_sum r
      have hw9 : xwords r ≤ 8 := Nat.le_of_ble_eq_true hw
      refine va_mabs_long F.1 F.2.1 (by rw [F.2.2.2.2.1]; exact C.2.2.1.1.1.symm) F.2.2.2.2.2.1 (hts _ q1) (hts _ q1192) (hts _ q139) (hts _ xmc_mabsJ) (by omega) (by rw [hw8]; omega) (by omega) (by omega) d ?_
      have e1 : (if 0 < Int64.ofInt a then Int64.ofInt a else -Int64.ofInt a) = Int64.ofInt (if 0 < a then a else -a) := by
        have e0 : 0 < Int64.ofInt a ↔ 0 < a := by
          rw [Int64.lt_iff_toInt_lt, x64 oa]
          rfl
        by_cases q : 0 < a
        · rw [if_pos q, if_pos (e0.mpr q)]
        · rw [if_neg q, if_neg (fun w => q (e0.mp w)), Int64.ofInt_neg]
      rw [e1]
      exact kz
    · cases ha
  · cases ha
