/-! THE LAW, 4: a run of the mini-machine is the law's run -/
set_option maxRecDepth 100000
set_option maxHeartbeats 4000000
def R_law : String := "WrongRoomLaw"
def lw_P (b : Addr) (xs : List Int32) (args : Array Value) (s : State) : Prop := args = #[.ref b] ∧ s.IntsAt b xs ∧ xs.length ≤ 384 ∧ (Jvm.Cond.and given_1 narrow_1).before args s = true
def lw_Q (_ : Array Value) (s : State) (o : Outcome) (t : State) : Prop := o = .returned (some (.int 1)) ∧ Framed s o t [] 1200128 5501098
def lw_Z (below : List Frame) (a : Array Value) (s : State) : State → Prop := fun t => ∃ o, t.status = .running ∧ Ended t below o ∧ lw_Q a s o t
/-- what holds at the law's entry -/
def lw_At (p : Program) (s : State) (m : MethodId) (meth : Method) (c : Code) (b L : Nat) (xs : Nat → Int32) : Prop :=
  p.tables.exec = Jvm.exec ∧ c.code = code ∧ meth.sig.returnType = ret ∧ c.maxLocals = 7 ∧ s.vm.findClass R_law = some m.cls ∧ (∀ w ∈ lw_tbl, w.before #[Value.ref b] s = true) ∧ va_X b L xs s s.heap ∧ b < s.heap.size ∧ meth.locks = false ∧ (Jvm.Cond.and given_1 narrow_1).before #[Value.ref b] s = true ∧ meth.name = "law" ∧ c.exceptionTable.toList = []
/-- what is owed of the mini-machine: the law answers 1 -/
def XLawRuns : Prop := ∀ (h : XH) (scr : Int) (L : Nat) (xs : Nat → Int), XStart h scr L xs → L ≤ 384 → ∃ h' : XH, XRuns 1000 xLaw 0 (some (.inr (.inr scr)) :: List.replicate 6 none) [] h (.inl (some (.inl 1))) h' ∧ xsz h' - xsz h ≤ 1200128 ∧ xsl h' - xsl h ≤ 5501098
theorem whole_start (hrun : XLawRuns) {p : Program} {e : Env} {s : State} {m : MethodId} {below : List Frame} {meth : Method} {c : Code} (l : Launch) (hflags : l.flags = flags0) {b L : Nat} {xs : Nat → Int32} (hL : L ≤ 384) (C0 : lw_At p s m meth c b L xs) : W p l e room_1 s m #[Value.ref b] below meth c s.heap [] 0 0 (lw_Z below #[Value.ref b] s) (entryFrame m ([Value.ref b] : List Value).toArray 7) := by
  obtain ⟨a1, a2, a3, a4, a5, a6, a7, a8, a9, a10, a11, a12⟩ := C0
  have hs : ∀ w ∈ xFL, w.before #[Value.ref b] s = true := flat_of_before _ a10
  obtain ⟨D, ta, G⟩ := xworld l hflags a6 hs
  obtain ⟨h0, hR, hS⟩ := xstart G hs a7 hL
  obtain ⟨h1, k, kc, ks⟩ := hrun h0 _ L _ hS hL
  have F : XF s xLaw p s m #[Value.ref b] meth c := ⟨a1, a2, a3, a9, a4, a5, a11, fun w hw => a6 w (lw_all_tbl hw), State.WarmedH.refl s, by rw [a12]; rfl⟩
  have hk := (soundX (s0 := s) (A0 := #[Value.ref b]) (D := D) (ta := ta) (l := l) k)
  have hb1 : xrv ((b : Int) + 1) = .ref b := xrv_pos rfl
  rw [lg_entry_eq]
  have hl := lv_entry (n := 7) [Value.ref b] (by show 1 ≤ 7; decide)
  refine hk.2 p e room_1 s m #[Value.ref b] below meth c G F (by decide) (by decide) (lw_Z below #[Value.ref b] s) s.heap [] 0 0 _ ⟨hR, (fun q hq => by cases hq), ⟨?_, rfl⟩, ?_, (fun v hv => by cases hv)⟩ (by show ((0 : Nat) : Int) + (xsz h1 - xsz h0) ≤ 1200128; omega) (by show ((0 : Nat) : Int) + (xsl h1 - xsl h0) ≤ 5501098; omega) ?_
  · show lv_has _ 7 [(0, xrv ((b : Int) + 1))]
    rw [hb1]
    exact hl
  · intro v hv
    rcases List.mem_cons.mp hv with e1 | e1
    · cases e1
      show (0 : Int) ≤ (b : Int) + 1
      omega
    · have := List.eq_of_mem_replicate e1
      cases this
  · intro pc' ls' st' rt g H' locs' cells' slots' lsM' hc hrt hg C e1 e2
    have ok : RetOK s xLaw pc' rt := xcode_ok (s0 := s) (A0 := #[Value.ref b]) (D := D) (ta := ta) (l := l) xLaw pc' _ hc
    have w := (ok st' g (some (.inl 1)) hrt hg).2 p l e room_1 s m #[Value.ref b] below meth c F (fun _ _ o _ => o = .returned (some (.int 1))) (fun q => s.heap.size ≤ q) H' locs' cells' slots' lsM' C.2.2.2.2 (fun t _ _ => rfl) C.2.1
    intro T hT X
    obtain ⟨t, st, o, b1, b2, b3, Ls, b4, b5⟩ := w T hT X
    refine ⟨t, st, o, b1, b2, b3, ?_⟩
    obtain ⟨f1, f2, f3⟩ := b4
    have hm := hk.1
    exact ⟨f1, f2, f3.weaken (fun y hy hlt => absurd hlt (Nat.not_lt.mpr (b5 y hy))) (by omega) (by omega)⟩
set_option maxHeartbeats 4000000 in
theorem lw_walk (hrun : XLawRuns) (l : Launch) (hflags : l.flags = flags0) (b : Addr) (xs : List Int32) : MetFree l x (headSpec (Jvm.Cond.code x code maxLocals ret :: tables_1) room_1) (lw_P b xs) (fun _ _ _ _ _ => True) lw_Q := by
  refine MetFree.of_bodyS (code := code) (maxLocals := maxLocals) (ret := ret) (by decide) ?_ ?_
  · intro args s m h hn
    obtain ⟨meth, c, h1, h2, h3, h4, h5, h6, -, -⟩ := Cond.code_spec hn (atoms_spec (ws := Jvm.Cond.code x code maxLocals ret :: tables_1) h _ List.mem_cons_self)
    exact ⟨meth, c, h1, h2, h3, h4, h5, h6⟩
  · intro p e s m args below meth c s₁ B hml0 hP _
    obtain ⟨rfl, hx, hbd, hgv⟩ := hP
    obtain ⟨scr, harrAt, hlist, hof, hsmall⟩ := hx
    obtain ⟨hcb, hkn, -, -⟩ := State.arrayAt?_spec harrAt
    have hown : s.vm.findClass R_law = some m.cls := findClass_of_methodNamed B.named
    have hts0 : ∀ c ∈ (Jvm.Cond.code x code maxLocals ret :: tables_1), c.before #[Value.ref b] s = true := atoms_spec (ws := Jvm.Cond.code x code maxLocals ret :: tables_1) B.pre
    have hts : ∀ w ∈ lw_tbl, w.before #[Value.ref b] s = true := k2_hts_sels lw_privs (fun w hw => hts0 w (List.mem_cons_of_mem _ hw)) lw_privs_ok
    have hml : c.maxLocals = 7 := B.maxLocals_eq (hts0 _ List.mem_cons_self)
    have X₀ : Stand p l e room_1 s m #[Value.ref b] below meth c s₁ [] 0 0 := Stand.of_body B
    have hh0 : s₁.heap = s.heap := by rw [B.state]; rfl
    have hexc : c.exceptionTable.toList = [] := by
      obtain ⟨meth9, c9, h1, h2, -, -, -, -, h7, -⟩ := Cond.code_spec B.named (hts0 _ List.mem_cons_self)
      cases Option.some.inj (h1.symm.trans B.method)
      cases Option.some.inj (h2.symm.trans (Stand.of_body B).code)
      rw [Array.isEmpty_iff.mp h7]
    have hnm : meth.name = "law" := (name_of_methodNamed B.named B.method).1
    have hsz : scr.slots.size = xs.length := by rw [← Array.length_toList, hlist, List.length_map]
    have hval : ∀ j : Nat, j < xs.length → scr.slots[j]? = some (.int (xs.getD j 0)) := fun j hj => by
      rw [← Array.getElem?_toList, hlist]
      simp [hj]
    have hbl : b < s.heap.size := (Array.getElem?_eq_some_iff.mp hcb).1
    have hX : va_X b xs.length (fun j => xs.getD j 0) s s.heap := ⟨scr, hcb, hof, hkn, hsz, hval⟩
    have K : W p l e room_1 s m #[Value.ref b] below meth c s₁.heap [] 0 0 (lw_Z below #[Value.ref b] s) (entryFrame m ([Value.ref b] : List Value).toArray 7) := by
      rw [hh0]
      exact whole_start hrun l hflags hbd ⟨B.exec, B.bytes, B.returns, hml, hown, hts, hX, hbl, B.notSynchronized, hgv, hnm, hexc⟩
    obtain ⟨t, a1, o, b1, b2, b3⟩ := K s₁ rfl X₀
    exact ⟨t, o, a1, b1, b2, b3⟩
theorem lw_pre_spec {args : Array Value} {s : State} (h : (Jvm.Cond.and given_1 narrow_1).before args s = true) (hr : rest_1_c.before args s = true) : ∃ (b : Addr) (xs : List Int32), lw_P b xs args s := by
  have hs := flat_of_before _ h
  have hq := flat_of_before _ hr
  have hc : (Cond.count 1).before args s = true := hs _ (by decide +kernel)
  have harr : (Cond.arrayOf (.arg 0) .int).before args s = true := hs _ (by decide +kernel)
  have hle : (Cond.le (.length (.arg 0)) (.int 384)).before args s = true := hs _ (by decide +kernel)
  have hlen : (Cond.isInt (.length (.arg 0))).before args s = true := hq _ (by decide +kernel)
  have hall : (Cond.all (.arg 0) (.isInt (.elem (.arg 0) (.index 0)))).before args s = true := hq _ (by decide +kernel)
  obtain ⟨b, xs, hb, hx⟩ := State.ints_of_pre rfl harr hlen hall
  have hsm : xs.length < 2 ^ 31 := hx.choose_spec.2.2.2
  have hev : (Term.length (.arg 0)).eval args s none [] s = some (.int xs.length.toInt32) := hx.length_eval hb
  have hv := Cond.le_ints hev (show (Term.int 384).eval args s none [] s = some (.int 384) from rfl)
  have hd : xs.length.toInt32 ≤ 384 := by
    simpa [Cond.before, Cond.holds, hv] using hle
  have hN : xs.length ≤ 384 := (Int32.ofNat_le_ofNat hsm (by decide)).mp (show Int32.ofNat xs.length ≤ Int32.ofNat 384 from hd)
  exact ⟨b, xs, Cond.one_arg hc (show args[0]? = some (.ref b) from hb), hx, hN, h⟩
theorem lw_comes (hrun : XLawRuns) (l : Launch) (hflags : l.flags = flags0) : Comes l x (Jvm.Cond.code x code maxLocals ret :: tables_1) room_1 (fun tb e args s => Calls_1 tb e args s ∧ rest_1 tb e args s ∧ Pre_1 tb e args s)
    (fun _ _ args s o t => lw_Q args s o t) := by
  intro p e ha hc hk s m args below hf hfit hheap happ hpre
  obtain ⟨b, xs, hP⟩ := lw_pre_spec hpre.2.2 hpre.2.1
  obtain ⟨k, o, h1, h2, h3, hQ⟩ := lw_walk hrun l hflags b xs p e ha hc hk s m args below hf ((Spec.applies_iff_loose hf).mp happ).1 hP trivial
  exact ⟨k, o, h1, h2, h3, hQ⟩
theorem lw_frame {s t : State} {o : Outcome} {args : Array Value} (h : Framed s o t [] 1200128 5501098) :
    Framed s o t (fieldLocs frame_1_writes args s ++ arrayLocs frame_1_arrays args s ++ staticLocs frame_1_statics s) 1200128 5501098 := h
theorem lw_limb (hrun : XLawRuns) (L : Cond) (hL : ∀ (args : Array Value) (s t : State), L.after args s (.returned (some (.int 1))) t = true) :
    ArmFor flags0 classFile x code maxLocals ret World_1 tables_1 room_1 Calls_1 rest_1 Pre_1
      (fun tb e a s o t => postC L tb e a s o t ∧ Framed s o t (fieldLocs frame_1_writes a s ++ arrayLocs frame_1_arrays a s ++ staticLocs frame_1_statics s) 1200128 5501098) := by
  intro l hflags _ _ p e ha hc hk s m args below hf hfit hheap happ hpre
  obtain ⟨k, o, h1, h2, h3, rfl, hF⟩ := lw_comes hrun l hflags p e ha hc hk s m args below hf hfit hheap happ hpre
  exact ⟨k, _, h1, h2, h3, hL args s _, lw_frame hF⟩
/-- the claim out of the mini-machine's run -/
theorem i_vc_of (hrun : XLawRuns) : Claimed_1_1 ∧ Claimed_1_2 := ⟨lw_limb hrun limb_1_1 (fun args s t => by simp [limb_1_1, Cond.after, Cond.holds, Cond.value]), lw_limb hrun limb_1_2 (fun args s t => Cond.after_iff.mpr (by
  first | (rw [show limb_1_2 = Cond.eq .result (.int 1) from rfl, Cond.eq_ints (x := 1) (y := 1) rfl rfl]; simp; done) | (simp [limb_1_2, Cond.value, Term.eval]; done)))⟩
