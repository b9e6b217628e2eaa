/-! THE MINI-MACHINE IS SOUND, 10: ends, exceptions, and the whole -/
set_option maxRecDepth 100000
set_option maxHeartbeats 4000000
def RetOK (s0 : State) (M pc : Nat) (rt : XR) : Prop := ∀ (st : XS) (g : Prop) (v : Option XV), rt st = some (g, v) → g → (xokS st → ∀ w : XV, v = some w → xok w) ∧
  ∀ (p : Program) (l : Launch) (e : Env) (R : Room) (s : State) (m : MethodId) (args : Array Value) (below : List Frame) (meth : Method) (c : Code), XF s0 M p s m args meth c →
  ∀ (Qc : Array Value → State → Outcome → State → Prop) (free : Addr → Prop) (H : Heap) (locs : List Loc) (cells slots : Nat) (lsM : Array Slot), xokS st → (∀ t : State, t.heap = H → s.WarmedH t.vm → Qc args s (.returned (v.map xcv)) t) → (∀ q ∈ locs, free q.base) →
  W p l e R s m args below meth c H locs cells slots (MQ below Qc args s cells slots free) (F0 m pc lsM (st.map xcv))
theorem ok_ireturn {s0 : State} {M pc : Nat} (d : decode (xbytes M) pc = .ok (.ireturn, 1)) (hr : xret M = some .int) : RetOK s0 M pc xrI := by
  intro st g v h hg
  unfold xrI at h
  split at h
  · next z =>
    cases h
    refine ⟨fun o w e => ?_, fun p l e R s m args below meth c F Qc free H locs cells slots lsM o hq hf => ?_⟩
    · cases e; exact (xokS_c o).1
    · exact W.iret F.1 F.2.1 (F.2.2.1.trans hr) hq hf d F.2.2.2.1
  · cases h
theorem ok_zreturn {s0 : State} {M pc : Nat} (d : decode (xbytes M) pc = .ok (.ireturn, 1)) (hr : xret M = some .boolean) : RetOK s0 M pc xrZ := by
  intro st g v h hg
  unfold xrZ at h
  split at h
  · next z =>
    cases h
    refine ⟨fun o w e => ?_, fun p l e R s m args below meth c F Qc free H locs cells slots lsM o hq hf => ?_⟩
    · cases e; exact (xokS_c o).1
    · have hz : z = 0 ∨ z = 1 := by omega
      exact W.zret F.1 F.2.1 (F.2.2.1.trans hr) (by rcases hz with rfl | rfl <;> rfl) hq hf d F.2.2.2.1
  · cases h
theorem ok_breturn {s0 : State} {M pc : Nat} (d : decode (xbytes M) pc = .ok (.ireturn, 1)) (hr : xret M = some .byte) : RetOK s0 M pc xrB := by
  intro st g v h hg
  unfold xrB at h
  split at h
  · next z =>
    cases h
    refine ⟨fun o w e => ?_, fun p l e R s m args below meth c F Qc free H locs cells slots lsM o hq hf => ?_⟩
    · cases e; exact (xokS_c o).1
    · exact W.zret F.1 F.2.1 (F.2.2.1.trans hr) (by show Value.int _ = Value.int _; rw [(x8 hg).1]) hq hf d F.2.2.2.1
  · cases h
theorem ok_creturn {s0 : State} {M pc : Nat} (d : decode (xbytes M) pc = .ok (.ireturn, 1)) (hr : xret M = some .char) : RetOK s0 M pc xrC := by
  intro st g v h hg
  unfold xrC at h
  split at h
  · next z =>
    cases h
    refine ⟨fun o w e => ?_, fun p l e R s m args below meth c F Qc free H locs cells slots lsM o hq hf => ?_⟩
    · cases e; exact (xokS_c o).1
    · have oz := (xokS_c o).1
      exact W.zret F.1 F.2.1 (F.2.2.1.trans hr) (by show Value.int _ = Value.int _; rw [← lg_i2c_nf, lg_i2c_word (by rw [x32 oz]; exact hg.1) (by rw [x32 oz]; exact Int.lt_of_le_of_lt hg.2 (by decide))]) hq hf d F.2.2.2.1
  · cases h
theorem ok_lreturn {s0 : State} {M pc : Nat} (d : decode (xbytes M) pc = .ok (.lreturn, 1)) (hr : xret M = some .long) : RetOK s0 M pc xrJ := by
  intro st g v h hg
  unfold xrJ at h
  split at h
  · next z =>
    cases h
    refine ⟨fun o w e => ?_, fun p l e R s m args below meth c F Qc free H locs cells slots lsM o hq hf => ?_⟩
    · cases e; exact (xokS_c o).1
    · exact W.lret F.1 F.2.1 (F.2.2.1.trans hr) hq hf d F.2.2.2.1
  · cases h
theorem ok_areturn {s0 : State} {M pc : Nat} {rt : FieldType} (d : decode (xbytes M) pc = .ok (.areturn, 1)) (hr : xret M = some rt) (hrt : (∃ n, rt = .object n) ∨ ∃ t, rt = .array t) : RetOK s0 M pc xrA := by
  intro st g v h hg
  unfold xrA at h
  split at h
  · next z =>
    cases h
    refine ⟨fun o w e => ?_, fun p l e R s m args below meth c F Qc free H locs cells slots lsM o hq hf => ?_⟩
    · cases e; exact (xokS_c o).1
    · exact W.aret F.1 F.2.1 (F.2.2.1.trans hr) hrt (xrv_or z) hq hf d F.2.2.2.1
  · cases h
theorem ok_vreturn {s0 : State} {M pc : Nat} (d : decode (xbytes M) pc = .ok (.return_, 1)) (hr : xret M = none) : RetOK s0 M pc xrV := by
  intro st g v h hg
  unfold xrV at h
  split at h
  · cases h
    refine ⟨fun o w e => ?_, fun p l e R s m args below meth c F Qc free H locs cells slots lsM o hq hf => ?_⟩
    · cases e
    · exact W.vret F.1 F.2.1 (F.2.2.1.trans hr) hq hf d F.2.2.2.1
  · cases h
/-- each row of the code tables is right -/
def XIOK (s0 : State) (A0 : Array Value) (D : va_G) (ta : Nat → ClassId) (l : Launch) (M pc : Nat) (xi : XI) : Prop := match xi with
  | .inl a => ActOK s0 A0 D ta l M pc (x01 a)
  | .inr (.inl a) => ActOK s0 A0 D ta l M pc a
  | .inr (.inr (.inl b)) => BrOK s0 A0 D ta l M pc b
  | .inr (.inr (.inr (.inl k))) => k.2.1 = pc + 3 ∧ ∀ q ∈ k.2.2, CallOK s0 A0 D ta l M pc k.1 q.1 q.2
  | .inr (.inr (.inr (.inr (.inl rt)))) => RetOK s0 M pc rt
  | .inr (.inr (.inr (.inr (.inr _)))) => decode (xbytes M) pc = .ok (.athrow, 1)
/-- what a run's end asks of the machine -/
def XFin (s0 : State) (D : va_G) (ta : Nat → ClassId) (M : Nat) (o : XO) (h' : XH) (kc ks : Int) (p : Program) (l : Launch) (e : Env) (R : Room) (s : State) (m : MethodId) (args : Array Value) (below : List Frame) (meth : Method) (c : Code) (Q : State → Prop) : Prop := match o with
  | .inl v => ∀ (pc' : Nat) (ls' : XL) (st' : XS) (rt : XR) (g : Prop) (H' : Heap) (locs' : List Loc) (cells' slots' : Nat) (lsM' : Array Slot), xcode M pc' = some (.inr (.inr (.inr (.inr (.inl rt))))) → rt st' = some (g, v) → g → XCf s0 D ta M h' ls' st' H' locs' lsM' → (cells' : Int) - xsz h' = kc → (slots' : Int) - xsl h' = ks → W p l e R s m args below meth c H' locs' cells' slots' Q (F0 m pc' lsM' (st'.map xcv))
  | .inr q => ∀ (pc' cc : Nat) (rest : List Value) (H' : Heap) (locs' : List Loc) (cells' slots' : Nat) (lsM' : Array Slot), xleaves M pc' → xty h' q = some (true, cc, none) → XRel s0 D ta h' H' → (∀ z ∈ locs', s0.heap.size ≤ z.base) → (cells' : Int) - xsz h' = kc → (slots' : Int) - xsl h' = ks → vx_W p l e R s m args below meth c H' locs' cells' slots' Q (F0 m pc' lsM' rest) (q - 1).toNat
def SemF (s0 : State) (A0 : Array Value) (D : va_G) (ta : Nat → ClassId) (l : Launch) : XP := fun d M pc ls st h o h' => (xsz h ≤ xsz h' ∧ xsl h ≤ xsl h') ∧
  ∀ (p : Program) (e : Env) (R : Room) (s : State) (m : MethodId) (args : Array Value) (below : List Frame) (meth : Method) (c : Code), XG s0 A0 D ta l → XF s0 M p s m args meth c → d + 8 ≤ R.frames → 64 * d + 512 ≤ R.locals →
  ∀ (Q : State → Prop) (H : Heap) (locs : List Loc) (cells slots : Nat) (lsM : Array Slot), XCf s0 D ta M h ls st H locs lsM → (cells : Int) + (xsz h' - xsz h) ≤ R.cells → (slots : Int) + (xsl h' - xsl h) ≤ R.slots →
  XFin s0 D ta M o h' (cells - xsz h) (slots - xsl h) p l e R s m args below meth c Q → W p l e R s m args below meth c H locs cells slots Q (F0 m pc lsM (st.map xcv))
theorem xhnd_hh (M : Nat) : (xhnd M = [] ∧ xhh M = []) ∨ (M = XM1 ∧ xhnd M = [(32, 44, 47, 2)] ∧ xhh M = [(32, 44, 47, 126)]) ∨ (M = XM2 ∧ xhnd M = [(0, 9, 12, 17)] ∧ xhh M = [(0, 9, 12, 13)]) := by
  unfold xhnd xhh
  cases h4 : Nat.beq M 4 with
  | true => exact Or.inr (Or.inl ⟨Nat.eq_of_beq_eq_true h4, rfl, rfl⟩)
  | false =>
    cases h0 : Nat.beq M 0 with
    | true => exact Or.inr (Or.inr ⟨Nat.eq_of_beq_eq_true h0, rfl, rfl⟩)
    | false => exact Or.inl ⟨rfl, rfl⟩
theorem xleaves_ok {M pc : Nat} (h : xleaves M pc) : ∀ x ∈ tableOf (xhh M), covers x pc = false := by
  intro x hx
  unfold xleaves at h
  have key : ∀ (a b t k k2 : Nat), xhnd M = [(a, b, t, k)] → xhh M = [(a, b, t, k2)] → covers x pc = false := by
    intro a b t k k2 e1 e2
    rw [e1] at h
    rw [e2] at hx
    have h1 := h (a, b, t, k) List.mem_cons_self
    rw [List.mem_singleton.mp hx]
    unfold covers
    rcases Nat.lt_or_ge pc a with q | q
    · simp [Nat.not_le.mpr q]
    · have h2 : ¬ pc < b := fun w => h1 ⟨q, w⟩
      simp [h2]
  rcases xhnd_hh M with ⟨-, e⟩ | ⟨-, e1, e2⟩ | ⟨-, e1, e2⟩
  · rw [e] at hx
    cases hx
  · exact key _ _ _ _ _ e1 e2
  · exact key _ _ _ _ _ e1 e2
theorem xthrown {s0 s : State} {A0 : Array Value} {D : va_G} {ta : Nat → ClassId} {l : Launch} (G : XG s0 A0 D ta l) (hW : s0.WarmedH s.vm) {h : XH} {H : Heap} {q : Int} {cc : Nat} (hR : XRel s0 D ta h H) (ht : xty h q = some (true, cc, none)) : ∃ (b : Nat) (ce : Cell) (qq : vw_C), q = (b : Int) + 1 ∧ H[b]? = some ce ∧ ce.vm = .none ∧ xcl[cc]? = some qq ∧ s.vm.findClass qq.1 = some ce.cls := by
  obtain ⟨b, cell, q', e1, e2, e3, e4, e5, e6, e7, e8⟩ := xobj G hW hR ht
  exact ⟨b, cell, q', e1, e2, e8 rfl, e5, e7⟩
/-- a handler takes an exception -/
theorem xhandler {s0 : State} {A0 : Array Value} {D : va_G} {ta : Nat → ClassId} {l : Launch} {M pc cc hp : Nat} (hg : xgoes M pc cc hp) {p : Program} {e : Env} {R : Room} {s : State} {m : MethodId} {args : Array Value} {below : List Frame} {meth : Method} {c : Code} (G : XG s0 A0 D ta l) (F : XF s0 M p s m args meth c) {Q : State → Prop} {H : Heap} {locs : List Loc} {cells slots : Nat} {lsM : Array Slot} {rest : List Value} {h : XH} {q : Int} (hR : XRel s0 D ta h H) (ht : xty h q = some (true, cc, none))
    (k : W p l e R s m args below meth c H locs cells slots Q (F0 m hp lsM ([Sum.inr (Sum.inr q)].map xcv))) : vx_W p l e R s m args below meth c H locs cells slots Q (F0 m pc lsM rest) (q - 1).toNat := by
  obtain ⟨x, hx, h1, h2, h3, h4⟩ := hg
  have hW := F.2.2.2.2.2.2.2.2.1
  obtain ⟨b, ce, qq, e1, e2, e3, e5, e7⟩ := xthrown G hW hR ht
  have hb : (q - 1).toNat = b := by omega
  have k : W p l e R s m args below meth c H locs cells slots Q (F0 m hp lsM [xrv q]) := k
  rw [xrv_pos e1] at k
  rw [hb]
  have key : ∀ (a z t kc k2 : Nat) (nm : String), xhnd M = [(a, z, t, kc)] → xhh M = [(a, z, t, k2)] → k2 ≠ 0 → Cond.classLink (xname M).cls k2 nm ∈ lw_all → xcl[kc]? = some (nm, (xcl.getD kc ("", fun _ => ("", "", "", false), 0)).2) → Cond.castable nm nm ∈ lw_tbl → vx_W p l e R s m args below meth c H locs cells slots Q (F0 m pc lsM rest) b := by
    intro a z t kc k2 nm g1 g2 g3 g4 g5 g6
    rw [g1] at hx
    have hx := List.mem_singleton.mp hx
    subst hx
    have h3 : t = hp := h3
    have h4 : kc = cc := h4
    subst h3
    subst h4
    rw [g5] at e5
    have e6 : qq.1 = nm := by rw [← Option.some.inj e5]
    rw [e6] at e7
    refine vx_catch (own := (xname M).cls) (name := nm) (E := nm) F.2.2.2.2.2.1 [] ⟨a, z, t, k2⟩ [] ?_ (fun z hz => by cases hz) ?_ g3 (F.2.2.2.2.2.2.2.1 _ g4) (va_Nw.use rfl (va_Nw.warmC hW (va_Nw.of rfl (G.1 _ g6)))) e2 e3 e7 k
    · rw [F.2.2.2.2.2.2.2.2.2, g2]
      rfl
    · unfold covers
      have a1 : a ≤ pc := h1
      have a2 : pc < z := h2
      simp [a1, a2]
  rcases xhnd_hh M with ⟨e, -⟩ | ⟨hM, g1, g2⟩ | ⟨hM, g1, g2⟩
  · rw [e] at hx
    cases hx
  · subst hM
    exact key _ _ _ _ _ _ g1 g2 (by decide) q476 rfl q157
  · subst hM
    exact key _ _ _ _ _ _ g1 g2 (by decide) q1371 rfl q1378
