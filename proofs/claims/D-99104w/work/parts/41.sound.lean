/-! THE MINI-MACHINE IS SOUND, 11: the whole -/
set_option maxRecDepth 100000
set_option maxHeartbeats 4000000
theorem x01_some {act : XA0} {ls : XL} {st : XS} {h : XH} {r : Nat × XL × XS × XH} (ha : act ls st h = some r) : x01 act ls st h = some (True, r) := by
  unfold x01
  rw [ha]
def xPc (s0 : State) (D : va_G) (ta : Nat → ClassId) (As : XS) (h : XH) : Array Value → State → Prop := fun a U => a = (As.map xcv).toArray ∧ s0.WarmedH U.vm ∧ XRel s0 D ta h U.heap
def xQc (s0 : State) (D : va_G) (ta : Nat → ClassId) (o1 : XO) (h1 : XH) : Array Value → State → Outcome → State → Prop := fun _ _ o t => ∃ v : Option XV, o1 = .inl v ∧ o = .returned (v.map xcv) ∧ XRel s0 D ta h1 t.heap ∧ ∀ w : XV, v = some w → xok w
def xXC (s0 : State) (D : va_G) (ta : Nat → ClassId) (o1 : XO) (h1 : XH) : Addr → String → State → State → Prop := fun b _ _ t => ∃ (q : Int), o1 = .inr q ∧ q = (b : Int) + 1 ∧ XRel s0 D ta h1 t.heap
theorem xblind {s0 : State} {D : va_G} {ta : Nat → ClassId} {As : XS} {h : XH} : FrameBlind (xPc s0 D ta As h) := fun _ _ _ _ q => ⟨q.1, q.2.1, q.2.2⟩
theorem xws_of (y : Nat) : (xhh y = [] ∧ xws y = ws_ (xname y) (xbytes y) (xloc y) (xret y)) ∨ (∃ hh, xhh y = hh ∧ xws y = wsW_ (xname y) (xbytes y) (xloc y) (xret y) hh) := by
  unfold xws
  split
  · next h => exact Or.inl ⟨h, rfl⟩
  · exact Or.inr ⟨_, rfl, rfl⟩
/-- a callee's contract out of its run -/
theorem xmet {s0 : State} {A0 : Array Value} {D : va_G} {ta : Nat → ClassId} {l : Launch} (hX : ∀ M pc xi, xcode M pc = some xi → XIOK s0 A0 D ta l M pc xi) (hpl : ∀ y : Nat, plainName (xname y).cls = true ∨ xloc y = 0) (G : XG s0 A0 D ta l) {d y : Nat} {As : XS} {h : XH} {le : XL} {o1 : XO} {h1 : XH} (hent : xent (xloc y) As some = some le) (hy0 : xloc y ≠ 0) (hAs : xokS As) (ih : SemF s0 A0 D ta l d y 0 le [] h o1 h1) :
    vx_Met l (xname y) (xws y) ({ frames := d + 8, cells := (xsz h1 - xsz h).toNat, slots := (xsl h1 - xsl h).toNat, locals := 64 * d + 512 }) (xPc s0 D ta As h) (xQc s0 D ta o1 h1) (xXC s0 D ta o1 h1) (xsz h1 - xsz h).toNat (xsl h1 - xsl h).toNat (fun q => s0.heap.size ≤ q) := by
  have hp : plainName (xname y).cls = true := by
    rcases hpl y with q | q
    · exact q
    · exact absurd q hy0
  obtain ⟨le', f1, f2, f3, f4, f5⟩ := xent_spec As (xloc y) 0 some le hent
  cases f1
  obtain ⟨⟨m1, m2⟩, ihk⟩ := ih
  have body : ∀ (p : Program) (e : Env) (s : State) (m : MethodId) (args : Array Value) (below : List Frame) (meth : Method) (c : Code), XF s0 y p s m args meth c → args = (As.map xcv).toArray → XRel s0 D ta h s.heap →
      W p l e ({ frames := d + 8, cells := (xsz h1 - xsz h).toNat, slots := (xsl h1 - xsl h).toNat, locals := 64 * d + 512 }) s m args below meth c s.heap [] 0 0 (vx_MQ below (xQc s0 D ta o1 h1) (xXC s0 D ta o1 h1) args s (xsz h1 - xsz h).toNat (xsl h1 - xsl h).toNat (fun q => s0.heap.size ≤ q)) (entryFrame m args (xloc y)) := by
    intro p e s m args below meth c F ha hR
    subst ha
    rw [lg_entry_eq]
    have hl := lv_entry (As.map xcv) f4
    rw [← f3] at hl
    refine ihk p e _ s m _ below meth c G F (Nat.le_refl _) (Nat.le_refl _) _ s.heap [] 0 0 _ ⟨hR, (fun q hq => by cases hq), ⟨hl, f2⟩, (fun w hw => hAs w (f5 w hw)), (fun v hv => by cases hv)⟩ (by show ((0 : Nat) : Int) + _ ≤ (((xsz h1 - xsz h).toNat : Nat) : Int); omega) (by show ((0 : Nat) : Int) + _ ≤ (((xsl h1 - xsl h).toNat : Nat) : Int); omega) ?_
    unfold XFin
    split
    · next v =>
      intro pc' ls' st' rt g H' locs' cells' slots' lsM' hc hrt hg C hk1 hk2
      have e1 : cells' = (xsz h1 - xsz h).toNat := by omega
      have e2 : slots' = (xsl h1 - xsl h).toNat := by omega
      subst e1
      subst e2
      obtain ⟨r1, r2⟩ := (show RetOK s0 y pc' rt from hX y pc' _ hc) st' g v hrt hg
      exact vx_ret (r2 p l e _ s m _ below meth c F _ _ H' locs' _ _ lsM' C.2.2.2.2 (fun t ht hW => ⟨v, rfl, rfl, by rw [ht]; exact C.1, r1 C.2.2.2.2⟩) C.2.1)
    · next q =>
      intro pc' cc rest H' locs' cells' slots' lsM' hlv ht hR' hlo hk1 hk2
      obtain ⟨b, ce, qq, e1, e2, e3, e5, e7⟩ := xthrown G F.2.2.2.2.2.2.2.2.1 hR' ht
      have hb : (q - 1).toNat = b := by omega
      rw [hb]
      refine vx_out (E := qq.1) (fun x hx => xleaves_ok hlv x (by rw [← F.2.2.2.2.2.2.2.2.2]; exact hx)) F.2.2.2.1 e2 e3 e7 (fun t ht _ => ⟨q, rfl, e1, by rw [ht]; exact hR'⟩) hlo (by omega) (by omega)
  rcases xws_of y with ⟨w1, w2⟩ | ⟨hh, w1, w2⟩
  · refine vx_ofW (cc := xbytes y) (maxL := xloc y) (ret := xret y) hp w2 ?_
    intro p e s m args below meth c s₁ B hml htab hv
    have hts := atoms_spec (ws := xws y) B.pre
    rw [w2] at hts
    refine body p e s m args below meth c ⟨B.exec, B.bytes, B.returns, B.notSynchronized, hml, findClass_of_methodNamed B.named, (name_of_methodNamed B.named B.method).1, fun w hw => hts w (List.mem_cons_of_mem _ hw), hv.2.1, ?_⟩ hv.1 hv.2.2
    rw [w1]
    cases htl : c.exceptionTable.toList with
    | nil => rfl
    | cons x r => exact absurd (htab x (by rw [htl]; exact List.mem_cons_self)) not_false
  · refine vx_ofWH (cc := xbytes y) (maxL := xloc y) (ret := xret y) (hh := hh) hp w2 ?_
    intro p e s m args below meth c s₁ B hml hv
    have hts := atoms_spec (ws := xws y) B.pre
    rw [w2] at hts
    refine body p e s m args below meth c ⟨B.exec, B.bytes, B.returns, B.notSynchronized, hml, findClass_of_methodNamed B.named, (name_of_methodNamed B.named B.method).1, fun w hw => hts w (List.mem_cons_of_mem _ hw), hv.2.1, ?_⟩ hv.1 hv.2.2
    rw [w1]
    exact vx_table (x := xname y) B (hts _ List.mem_cons_self)
theorem xpush_map (v : Option XV) (rest : XS) : (v.map xcv).toList ++ rest.map xcv = (xpush v rest).map xcv := by
  cases v <;> rfl
/-- what a call row and a callee's run give: the two ways on -/
theorem xcall {s0 : State} {A0 : Array Value} {D : va_G} {ta : Nat → ClassId} {l : Launch} (hX : ∀ M pc xi, xcode M pc = some xi → XIOK s0 A0 D ta l M pc xi) (hpl : ∀ y : Nat, plainName (xname y).cls = true ∨ xloc y = 0) (hll : ∀ y : Nat, xloc y ≤ 32) (hy : ∀ M pc n np alts, xcode M pc = some (.inr (.inr (.inr (.inl (n, np, alts))))) → ∀ q ∈ alts, xloc q.2 ≠ 0) {d M pc : Nat} {ls : XL} {st : XS} {h : XH} {n np j y : Nat} {alts : List (Option Nat × Nat)} {g : Option Nat} {args rest : XS} {le : XL} {o1 : XO} {h1 : XH}
    (hc : xcode M pc = some (.inr (.inr (.inr (.inl (n, np, alts)))))) (ha : xalt alts j = some (g, y)) (hpop : xpop n st [] = some (args, rest)) (hw : xwords rest ≤ 8) (hr : xrecv h g args) (hent : xent (xloc y) args some = some le) (ih : SemF s0 A0 D ta l d y 0 le [] h o1 h1)
    {p : Program} {e : Env} {R : Room} {s : State} {m : MethodId} {margs : Array Value} {below : List Frame} {meth : Method} {c : Code} (G : XG s0 A0 D ta l) (F : XF s0 M p s m margs meth c) (hf : d + 1 + 8 ≤ R.frames) (hl : 64 * (d + 1) + 512 ≤ R.locals) {Q : State → Prop} {H : Heap} {locs : List Loc} {cells slots : Nat} {lsM : Array Slot} (C : XCf s0 D ta M h ls st H locs lsM) (hcc : (cells : Int) + (xsz h1 - xsz h) ≤ R.cells) (hss : (slots : Int) + (xsl h1 - xsl h) ≤ R.slots)
    (k : ∀ (v : Option XV), o1 = .inl v → (∀ w : XV, v = some w → xok w) → ∀ (H' : Heap) (locs' : List Loc), XCf s0 D ta M h1 ls (xpush v rest) H' locs' lsM → W p l e R s m margs below meth c H' locs' (cells + (xsz h1 - xsz h).toNat) (slots + (xsl h1 - xsl h).toNat) Q (F0 m np lsM ((xpush v rest).map xcv)))
    (kx : ∀ q : Int, o1 = .inr q → ∀ (H' : Heap) (locs' : List Loc), XRel s0 D ta h1 H' → (∀ z ∈ locs', s0.heap.size ≤ z.base) → vx_W p l e R s m margs below meth c H' locs' (cells + (xsz h1 - xsz h).toNat) (slots + (xsl h1 - xsl h).toNat) Q (F0 m pc lsM (rest.map xcv)) (q - 1).toNat) :
    W p l e R s m margs below meth c H locs cells slots Q (F0 m pc lsM (st.map xcv)) := by
  obtain ⟨hnp, hal⟩ := (show np = pc + 3 ∧ ∀ q ∈ alts, CallOK s0 A0 D ta l M pc n q.1 q.2 from hX M pc _ hc)
  subst hnp
  have hmem : (g, y) ∈ alts := List.mem_of_getElem? ha
  have hcall := hal _ hmem
  obtain ⟨a, p1, p2, p3⟩ := xpop_spec n st [] args rest hpop
  rw [List.append_nil] at p1
  subst p1
  obtain ⟨c1, c2, ⟨c3, c3'⟩, c4, c5⟩ := C
  have hAs : xokS args := fun w hw => c5 w (by rw [p3]; exact List.mem_append_left _ (List.mem_reverse.mpr hw))
  have hrest : xokS rest := fun w hw => c5 w (by rw [p3]; exact List.mem_append_right _ hw)
  have hM := xmet hX hpl G hent (hy M pc n _ alts hc _ hmem) hAs ih
  have hWs := F.2.2.2.2.2.2.2.2.1
  have hl32 := hll y
  have run := hcall p e R s m margs below meth c G F H locs cells slots lsM h args rest _ _ _ _ _ c1 c3.1 p2 hw hr hM (by show d + 8 + 1 ≤ R.frames; omega) (by show 8 + (xloc y + 11) + (64 * d + 512) ≤ R.locals; omega) ⟨by show cells + (xsz h1 - xsz h).toNat ≤ R.cells; have := ih.1.1; omega, by show slots + (xsl h1 - xsl h).toNat ≤ R.slots; have := ih.1.2; omega⟩ ⟨xblind, fun U hU hW => ⟨rfl, State.WarmedH.trans hWs hW, by rw [hU]; exact c1⟩⟩
  have hst : st.map xcv = (args.map xcv).reverse ++ rest.map xcv := by
    rw [p3, List.map_append, List.map_reverse]
  rw [hst]
  intro T hT X
  rcases run T hT X with ⟨v, st₀, t, T', L, h0, X', hL, e1, e2, hq, go⟩ | ⟨b, st₀, t, T', L, E, ce, h0, X', hL, e1, e2, hq, z1, z2, z3, go⟩
  · obtain ⟨w, w1, w2, w3, w4⟩ := hq
    have w2 : v = w.map xcv := Outcome.returned.inj w2
    subst w2
    have C' : XCf s0 D ta M h1 ls (xpush w rest) T'.heap (locs ++ L) lsM := by
      refine ⟨by rw [e1]; exact w3, fun z hz => ?_, ⟨c3, c3'⟩, c4, fun u hu => ?_⟩
      · rcases List.mem_append.mp hz with q | q
        · exact c2 z q
        · exact hL z q
      · cases w with
        | none => exact hrest u hu
        | some w =>
          rcases List.mem_cons.mp hu with q | q
          · rw [q]; exact w4 w rfl
          · exact hrest u q
    obtain ⟨t2, a1, b1⟩ := k w w1 w4 T'.heap (locs ++ L) C' T' rfl X'
    refine ⟨t2, go t2 ?_, b1⟩
    rw [← xpush_map] at a1
    exact a1
  · obtain ⟨q, w1, w2, w3⟩ := hq
    have hb : (q - 1).toNat = b := by omega
    have kq := kx q w1 T'.heap (locs ++ L) (by rw [e1]; exact w3) (fun z hz => by
      rcases List.mem_append.mp hz with u | u
      · exact c2 z u
      · exact hL z u)
    rw [hb] at kq
    obtain ⟨t2, a1, b1⟩ := kq T' rfl X'
    exact ⟨t2, go.trans a1, b1⟩
theorem sound_closed {s0 : State} {A0 : Array Value} {D : va_G} {ta : Nat → ClassId} {l : Launch} (hX : ∀ M pc xi, xcode M pc = some xi → XIOK s0 A0 D ta l M pc xi) (hpl : ∀ y : Nat, plainName (xname y).cls = true ∨ xloc y = 0) (hll : ∀ y : Nat, xloc y ≤ 32) (hy : ∀ M pc n np alts, xcode M pc = some (.inr (.inr (.inr (.inl (n, np, alts))))) → ∀ q ∈ alts, xloc q.2 ≠ 0) : XClosed (SemF s0 A0 D ta l) := by
  refine ⟨?_, ?_, ?_, ?_, ?_, ?_, ?_, ?_⟩
  · intro d M pc ls st h o h' act pc' ls' st' h1 hc ha ⟨⟨m1, m2⟩, ih⟩
    obtain ⟨n1, n2, ok⟩ := (show ActOK s0 A0 D ta l M pc (x01 act) from hX M pc _ hc) ls st h True pc' ls' st' h1 (x01_some ha) trivial
    refine ⟨⟨by omega, by omega⟩, ?_⟩
    intro p e R s m args below meth c G F hf hl Q H locs cells slots lsM C hcc hss fin
    refine ok p e R s m args below meth c G F (by omega) (by omega) Q H locs cells slots lsM C (by omega) (by omega) ?_
    intro H' locs' cells' slots' lsM' C' k1 k2
    exact ih p e R s m args below meth c G F hf hl Q H' locs' cells' slots' lsM' C' (by omega) (by omega) (by rw [k1, k2]; exact fin)
  · intro d M pc ls st h o h' act g pc' ls' st' h1 hc ha hg ⟨⟨m1, m2⟩, ih⟩
    obtain ⟨n1, n2, ok⟩ := (show ActOK s0 A0 D ta l M pc act from hX M pc _ hc) ls st h g pc' ls' st' h1 ha hg
    refine ⟨⟨by omega, by omega⟩, ?_⟩
    intro p e R s m args below meth c G F hf hl Q H locs cells slots lsM C hcc hss fin
    refine ok p e R s m args below meth c G F (by omega) (by omega) Q H locs cells slots lsM C (by omega) (by omega) ?_
    intro H' locs' cells' slots' lsM' C' k1 k2
    exact ih p e R s m args below meth c G F hf hl Q H' locs' cells' slots' lsM' C' (by omega) (by omega) (by rw [k1, k2]; exact fin)
  · intro d M pc ls st h o h' b cd t f st' hc hb i1 i2
    obtain ⟨sub, ok⟩ := (show BrOK s0 A0 D ta l M pc b from hX M pc _ hc) st cd t f st' hb
    have hm : xsz h ≤ xsz h' ∧ xsl h ≤ xsl h' := by
      by_cases q : cd
      · exact (i1 q).1
      · exact (i2 q).1
    refine ⟨hm, ?_⟩
    intro p e R s m args below meth c G F hf hl Q H locs cells slots lsM C hcc hss fin
    have C' : XCf s0 D ta M h ls st' H locs lsM := xst_cf0 C (fun v hv => C.2.2.2.2 v (sub v hv))
    exact ok p e R s m args below meth c F Q H locs cells slots lsM C.2.2.2.2 (fun q => (i1 q).2 p e R s m args below meth c G F hf hl Q H locs cells slots lsM C' hcc hss fin) (fun q => (i2 q).2 p e R s m args below meth c G F hf hl Q H locs cells slots lsM C' hcc hss fin)
  · intro d M pc ls st h rt g v hc hrt hg
    refine ⟨⟨Int.le_refl _, Int.le_refl _⟩, ?_⟩
    intro p e R s m args below meth c G F hf hl Q H locs cells slots lsM C hcc hss fin
    exact fin pc ls st rt g H locs cells slots lsM hc hrt hg C rfl rfl
  · intro d M pc ls st h n np alts j g y args rest le v h1 o h' hc ha hpop hw hr hent i1 i2
    refine ⟨⟨by have := i1.1.1; have := i2.1.1; omega, by have := i1.1.2; have := i2.1.2; omega⟩, ?_⟩
    intro p e R s m margs below meth c G F hf hl Q H locs cells slots lsM C hcc hss fin
    have a1 := i1.1
    have a2 := i2.1
    refine xcall hX hpl hll hy hc ha hpop hw hr hent i1 G F hf hl C (by omega) (by omega) ?_ (fun q e _ _ _ _ => by cases e)
    intro v' e hv H' locs' C'
    cases e
    exact i2.2 p _ R s m margs below meth c G F hf hl Q H' locs' _ _ lsM C' (by omega) (by omega) (by rw [show ((cells + (xsz h1 - xsz h).toNat : Nat) : Int) - xsz h1 = cells - xsz h by omega, show ((slots + (xsl h1 - xsl h).toNat : Nat) : Int) - xsl h1 = slots - xsl h by omega]; exact fin)
  · intro d M pc ls st h n np alts j g y args rest le q cc hp h1 o h' hc ha hpop hw hr hent i1 ht hg i2
    refine ⟨⟨by have := i1.1.1; have := i2.1.1; omega, by have := i1.1.2; have := i2.1.2; omega⟩, ?_⟩
    intro p e R s m margs below meth c G F hf hl Q H locs cells slots lsM C hcc hss fin
    have a1 := i1.1
    have a2 := i2.1
    refine xcall hX hpl hll hy hc ha hpop hw hr hent i1 G F hf hl C (by omega) (by omega) (fun v e _ _ _ _ => by cases e) ?_
    intro q' e H' locs' hR' hlo
    cases e
    have hq0 : 0 ≤ q := by
      obtain ⟨b, -, -, e1, -⟩ := xthrown G F.2.2.2.2.2.2.2.2.1 hR' ht
      omega
    refine xhandler hg G F hR' ht (i2.2 p _ R s m margs below meth c G F hf hl Q H' locs' _ _ lsM ⟨hR', hlo, C.2.2.1, C.2.2.2.1, xokS_k hq0 (fun v hv => by cases hv)⟩ (by omega) (by omega) (by rw [show ((cells + (xsz h1 - xsz h).toNat : Nat) : Int) - xsz h1 = cells - xsz h by omega, show ((slots + (xsl h1 - xsl h).toNat : Nat) : Int) - xsl h1 = slots - xsl h by omega]; exact fin))
  · intro d M pc ls st h n np alts j g y args rest le q cc h1 hc ha hpop hw hr hent i1 ht hlv
    refine ⟨i1.1, ?_⟩
    intro p e R s m margs below meth c G F hf hl Q H locs cells slots lsM C hcc hss fin
    have a1 := i1.1
    refine xcall hX hpl hll hy hc ha hpop hw hr hent i1 G F hf hl C (by omega) (by omega) (fun v e _ _ _ _ => by cases e) ?_
    intro q' e H' locs' hR' hlo
    cases e
    exact fin pc cc (rest.map xcv) H' locs' _ _ lsM hlv ht hR' hlo (by omega) (by omega)
  · intro d M pc ls h q rest cc hc ht hlv
    refine ⟨⟨Int.le_refl _, Int.le_refl _⟩, ?_⟩
    intro p e R s m args below meth c G F hf hl Q H locs cells slots lsM C hcc hss fin
    have hd : decode (xbytes M) pc = .ok (.athrow, 1) := hX M pc _ hc
    obtain ⟨b, ce, qq, e1, -⟩ := xthrown G F.2.2.2.2.2.2.2.2.1 C.1 ht
    show W p l e R s m args below meth c H locs cells slots Q (F0 m pc lsM (xrv q :: rest.map xcv))
    rw [xrv_pos e1]
    have k := fin pc cc (rest.map xcv) H locs cells slots lsM hlv ht C.1 C.2.1 rfl rfl
    rw [show (q - 1).toNat = b by omega] at k
    exact vx_athrow F.1 F.2.1 hd k
/-- what a run of the mini-machine is of the machine -/
theorem sound {s0 : State} {A0 : Array Value} {D : va_G} {ta : Nat → ClassId} {l : Launch} (hX : ∀ M pc xi, xcode M pc = some xi → XIOK s0 A0 D ta l M pc xi) (hpl : ∀ y : Nat, plainName (xname y).cls = true ∨ xloc y = 0) (hll : ∀ y : Nat, xloc y ≤ 32) (hy : ∀ M pc n np alts, xcode M pc = some (.inr (.inr (.inr (.inl (n, np, alts))))) → ∀ q ∈ alts, xloc q.2 ≠ 0) {d M pc : Nat} {ls : XL} {st : XS} {h : XH} {o : XO} {h' : XH} (k : XRuns d M pc ls st h o h') : SemF s0 A0 D ta l d M pc ls st h o h' := k _ (sound_closed hX hpl hll hy)
