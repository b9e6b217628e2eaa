/-! THE MINI-MACHINE IS SOUND, 9: calls -/
set_option maxRecDepth 100000
set_option maxHeartbeats 4000000
def xws (y : Nat) : List Cond := match xhh y with
  | [] => ws_ (xname y) (xbytes y) (xloc y) (xret y)
  | hh => wsW_ (xname y) (xbytes y) (xloc y) (xret y) hh
def CallOK (s0 : State) (A0 : Array Value) (D : va_G) (ta : Nat → ClassId) (l : Launch) (M pc n : Nat) (g : Option Nat) (y : Nat) : Prop :=
  ∀ (p : Program) (e : Env) (R : Room) (s : State) (m : MethodId) (args : Array Value) (below : List Frame) (meth : Method) (c : Code), XG s0 A0 D ta l → XF s0 M p s m args meth c →
  ∀ (H : Heap) (locs : List Loc) (cells slots : Nat) (lsM : Array Slot) (h : XH) (As rest : XS) (rm : Room) (Pc : Array Value → State → Prop) (Qc : Array Value → State → Outcome → State → Prop) (XC : Addr → String → State → State → Prop) (free : Addr → Prop),
  XRel s0 D ta h H → lsM.size = xloc M → As.length = n → xwords rest ≤ 8 → xrecv h g As → vx_Met l (xname y) (xws y) rm Pc Qc XC rm.cells rm.slots free → rm.frames + 1 ≤ R.frames → 8 + (xloc y + 11) + rm.locals ≤ R.locals → cells + rm.cells ≤ R.cells ∧ slots + rm.slots ≤ R.slots → PreS s H Pc (As.map xcv) →
  vx_Run p l e R s m args below meth c H locs cells slots rm.cells rm.slots (F0 m pc lsM ((As.map xcv).reverse ++ rest.map xcv)) (rest.map xcv) (Qc (As.map xcv).toArray) XC free
theorem xrecv_of {h : XH} {cc : Nat} {As : XS} (hr : xrecv h (some cc) As) : ∃ (a : Int) (As' : XS) (w : Bool), As = .inr (.inr a) :: As' ∧ xty h a = some (w, cc, none) := by
  cases As with
  | nil => exact False.elim hr
  | cons v r =>
    obtain v | v | v := v
    · exact False.elim hr
    · exact False.elim hr
    · obtain ⟨w, hw⟩ := hr
      exact ⟨v, r, w, rfl, hw⟩
abbrev xPar (y n : Nat) : Prop := (xname y).cls ≠ "java/lang/invoke/MethodHandle" ∧ (xname y).cls ≠ "java/lang/invoke/VarHandle" ∧ (parseMethodDescriptor (xname y).desc).map (fun d => d.parameters.length) = some n
theorem ok_callS {s0 : State} {A0 : Array Value} {D : va_G} {ta : Nat → ClassId} {l : Launch} {M pc index n y : Nat} (d : decode (xbytes M) pc = .ok (.invokestatic index, 3)) (hh : xhh y = []) (hd : xPar y n) (q1 : Cond.methodLink (xname M).cls index (xname y) ∈ lw_all) (q2 : Cond.static (xname y) ∈ lw_all) (q3 : Cond.initialized (xname y).cls ∈ lw_all) (q4 : Cond.code (xname y) (xbytes y) (xloc y) (xret y) ∈ lw_all) : CallOK s0 A0 D ta l M pc n none y := by
  intro p e R s m args below meth c G F H locs cells slots lsM h As rest rm Pc Qc XC free hR hsz hn hw hr hM hfr hlo hf hp
  have ew : xws y = ws_ (xname y) (xbytes y) (xloc y) (xret y) := by unfold xws; rw [hh]
  rw [ew] at hM
  have hts := F.2.2.2.2.2.2.2.1
  have hWd : 2 * (F0 m pc lsM ((As.map xcv).reverse ++ rest.map xcv)).monitorRoom + ((rest.map xcv).map fun v => v.category).sum ≤ 8 := by
    rw [xwords_sum]
    show 2 * 0 + _ ≤ _
    omega
  have S : CallFix p m c (xbytes M) (xloc M) s args lw_all (xname M).cls := ⟨F.1, F.2.1, F.2.2.2.2.1, F.2.2.2.2.2.1, hts⟩
  exact vx_runS S hM (va_cwS n hts (lw_S q1 q2 q3 q4) rfl rfl rfl hd ⟨hfr, hlo⟩) hp rfl (by rw [List.length_map]; exact hn) hsz rfl hWd d hf
theorem ok_callSN {s0 : State} {A0 : Array Value} {D : va_G} {ta : Nat → ClassId} {l : Launch} {M pc index n y : Nat} {host : String} (d : decode (xbytes M) pc = .ok (.invokestatic index, 3)) (hh : xhh y = []) (hd : xPar y n) (q1 : Cond.methodLinkNest (xname M).cls index (xname y) host ∈ lw_tbl) (q2 : Cond.static (xname y) ∈ lw_all) (q3 : Cond.initialized (xname y).cls ∈ lw_all) (q4 : Cond.code (xname y) (xbytes y) (xloc y) (xret y) ∈ lw_all) : CallOK s0 A0 D ta l M pc n none y := by
  intro p e R s m args below meth c G F H locs cells slots lsM h As rest rm Pc Qc XC free hR hsz hn hw hr hM hfr hlo hf hp
  have ew : xws y = ws_ (xname y) (xbytes y) (xloc y) (xret y) := by unfold xws; rw [hh]
  rw [ew] at hM
  have hts := F.2.2.2.2.2.2.2.1
  have hWd : 2 * (F0 m pc lsM ((As.map xcv).reverse ++ rest.map xcv)).monitorRoom + ((rest.map xcv).map fun v => v.category).sum ≤ 8 := by
    rw [xwords_sum]
    show 2 * 0 + _ ≤ _
    omega
  have S : CallFix p m c (xbytes M) (xloc M) s args lw_all (xname M).cls := ⟨F.1, F.2.1, F.2.2.2.2.1, F.2.2.2.2.2.1, hts⟩
  exact vx_runSN S hM ⟨va_cnB n hts (lw_meth q4) rfl rfl rfl (va_Nw.warmM F.2.2.2.2.2.2.2.2.1 (va_Nw.of rfl (G.1 _ q1))) (hts _ q3) hd ⟨hfr, hlo⟩, hts _ q2, trivial⟩ hp rfl (by rw [List.length_map]; exact hn) hsz rfl hWd d hf
theorem ok_callSX {s0 : State} {A0 : Array Value} {D : va_G} {ta : Nat → ClassId} {l : Launch} {M pc index n y : Nat} {hs : List (Nat × Nat × Nat × Nat)} (d : decode (xbytes M) pc = .ok (.invokestatic index, 3)) (ew : xws y = wsW_ (xname y) (xbytes y) (xloc y) (xret y) hs) (hd : xPar y n) (q1 : Cond.methodLink (xname M).cls index (xname y) ∈ lw_all) (q2 : Cond.static (xname y) ∈ lw_all) (q3 : Cond.initialized (xname y).cls ∈ lw_all) (q4 : Cond.codeWith (xname y) (xbytes y) (xloc y) (xret y) hs ∈ lw_all) : CallOK s0 A0 D ta l M pc n none y := by
  intro p e R s m args below meth c G F H locs cells slots lsM h As rest rm Pc Qc XC free hR hsz hn hw hr hM hfr hlo hf hp
  rw [ew] at hM
  have hts := F.2.2.2.2.2.2.2.1
  have hWd : 2 * (F0 m pc lsM ((As.map xcv).reverse ++ rest.map xcv)).monitorRoom + ((rest.map xcv).map fun v => v.category).sum ≤ 8 := by
    rw [xwords_sum]
    show 2 * 0 + _ ≤ _
    omega
  have S : CallFix p m c (xbytes M) (xloc M) s args lw_all (xname M).cls := ⟨F.1, F.2.1, F.2.2.2.2.1, F.2.2.2.2.2.1, hts⟩
  exact vx_runSX S hM (vx_cwSW n hts (lw_SW q1 q2 q3 q4) rfl rfl rfl hd ⟨hfr, hlo⟩) hp rfl (by rw [List.length_map]; exact hn) hsz rfl hWd d hf
theorem ok_callV {s0 : State} {A0 : Array Value} {D : va_G} {ta : Nat → ClassId} {l : Launch} {M pc index n y : Nat} {cc : Nat} {q : vw_C} (d : decode (xbytes M) pc = .ok (.invokevirtual index, 3)) (hh : xhh y = []) (hq : xcl[cc]? = some q) (hC : (xname y).cls = q.1) (hd : xPar y n) (q1 : Cond.methodLink (xname M).cls index (xname y) ∈ lw_all) (q2 : Cond.instanceMethod (xname y) ∈ lw_all) (q3 : Cond.selects q.1 (xname y) (xname y) ∈ lw_all) (q4 : Cond.initialized q.1 ∈ lw_all) (q5 : Cond.code (xname y) (xbytes y) (xloc y) (xret y) ∈ lw_all) : CallOK s0 A0 D ta l M pc (n + 1) (some cc) y := by
  intro p e R s m args below meth c G F H locs cells slots lsM h As rest rm Pc Qc XC free hR hsz hn hw hr hM hfr hlo hf hp
  obtain ⟨a, As', w, rfl, ht⟩ := xrecv_of hr
  obtain ⟨b, cell, q', e1, e2, e3, e4, e5, e6, e7, -⟩ := xobj G F.2.2.2.2.2.2.2.2.1 hR ht
  rw [hq] at e5
  cases e5
  have hst : ((Sum.inr (Sum.inr a) :: As').map xcv).reverse ++ rest.map xcv = (As'.map xcv).reverse ++ .ref b :: rest.map xcv := by
    show (xrv a :: As'.map xcv).reverse ++ _ = _
    rw [xrv_pos e1]
    simp
  have har : ((Sum.inr (Sum.inr a) :: As').map xcv).toArray = (Value.ref b :: As'.map xcv).toArray := by
    show (xrv a :: As'.map xcv).toArray = _
    rw [xrv_pos e1]
  have hn' : (As'.map xcv).length = n := by
    rw [List.length_map]
    simpa using hn
  have hp' : PreS s H Pc (.ref b :: As'.map xcv) := by
    have h1 := hp
    rw [show (Sum.inr (Sum.inr a) :: As').map xcv = xrv a :: As'.map xcv from rfl, xrv_pos e1] at h1
    exact h1
  have ew : xws y = ws_ (xname y) (xbytes y) (xloc y) (xret y) := by unfold xws; rw [hh]
  rw [ew] at hM
  have hts := F.2.2.2.2.2.2.2.1
  have hWd : 2 * (F0 m pc lsM ((As'.map xcv).reverse ++ .ref b :: rest.map xcv)).monitorRoom + ((rest.map xcv).map fun v => v.category).sum ≤ 8 := by
    rw [xwords_sum]
    show 2 * 0 + _ ≤ _
    omega
  have S : CallFix p m c (xbytes M) (xloc M) s args lw_all (xname M).cls := ⟨F.1, F.2.1, F.2.2.2.2.1, F.2.2.2.2.2.1, hts⟩
  rw [hst, har]
  exact vx_runV S hM (cwV n hts (lw_V q1 q2 q3 q4 q5) rfl rfl rfl ⟨hC, hd⟩ ⟨hfr, hlo⟩) ⟨hp'.1, ⟨cell, e2, e3, e7⟩, hp'.2⟩ rfl hn' hsz rfl hWd d hf
theorem ok_callVX {s0 : State} {A0 : Array Value} {D : va_G} {ta : Nat → ClassId} {l : Launch} {M pc index n y : Nat} {cc : Nat} {q : vw_C} {hs : List (Nat × Nat × Nat × Nat)} (d : decode (xbytes M) pc = .ok (.invokevirtual index, 3)) (ew : xws y = wsW_ (xname y) (xbytes y) (xloc y) (xret y) hs) (hq : xcl[cc]? = some q) (hC : (xname y).cls = q.1) (hd : xPar y n) (q1 : Cond.methodLink (xname M).cls index (xname y) ∈ lw_all) (q2 : Cond.instanceMethod (xname y) ∈ lw_all) (q3 : Cond.selects q.1 (xname y) (xname y) ∈ lw_all) (q4 : Cond.initialized q.1 ∈ lw_all) (q5 : Cond.codeWith (xname y) (xbytes y) (xloc y) (xret y) hs ∈ lw_all) : CallOK s0 A0 D ta l M pc (n + 1) (some cc) y := by
  intro p e R s m args below meth c G F H locs cells slots lsM h As rest rm Pc Qc XC free hR hsz hn hw hr hM hfr hlo hf hp
  obtain ⟨a, As', w, rfl, ht⟩ := xrecv_of hr
  obtain ⟨b, cell, q', e1, e2, e3, e4, e5, e6, e7, -⟩ := xobj G F.2.2.2.2.2.2.2.2.1 hR ht
  rw [hq] at e5
  cases e5
  have hst : ((Sum.inr (Sum.inr a) :: As').map xcv).reverse ++ rest.map xcv = (As'.map xcv).reverse ++ .ref b :: rest.map xcv := by
    show (xrv a :: As'.map xcv).reverse ++ _ = _
    rw [xrv_pos e1]
    simp
  have har : ((Sum.inr (Sum.inr a) :: As').map xcv).toArray = (Value.ref b :: As'.map xcv).toArray := by
    show (xrv a :: As'.map xcv).toArray = _
    rw [xrv_pos e1]
  have hn' : (As'.map xcv).length = n := by
    rw [List.length_map]
    simpa using hn
  have hp' : PreS s H Pc (.ref b :: As'.map xcv) := by
    have h1 := hp
    rw [show (Sum.inr (Sum.inr a) :: As').map xcv = xrv a :: As'.map xcv from rfl, xrv_pos e1] at h1
    exact h1
  rw [ew] at hM
  have hts := F.2.2.2.2.2.2.2.1
  have hWd : 2 * (F0 m pc lsM ((As'.map xcv).reverse ++ .ref b :: rest.map xcv)).monitorRoom + ((rest.map xcv).map fun v => v.category).sum ≤ 8 := by
    rw [xwords_sum]
    show 2 * 0 + _ ≤ _
    omega
  have S : CallFix p m c (xbytes M) (xloc M) s args lw_all (xname M).cls := ⟨F.1, F.2.1, F.2.2.2.2.1, F.2.2.2.2.2.1, hts⟩
  rw [hst, har]
  exact vx_runVX S hM (vx_cwVW n hts (lw_VW q1 q2 q3 q4 q5) rfl rfl rfl ⟨hC, hd⟩ ⟨hfr, hlo⟩) ⟨hp'.1, ⟨cell, e2, e3, e7⟩, hp'.2⟩ rfl hn' hsz rfl hWd d hf
theorem ok_callVN {s0 : State} {A0 : Array Value} {D : va_G} {ta : Nat → ClassId} {l : Launch} {M pc index n y : Nat} {cc : Nat} {q : vw_C} {host : String} (d : decode (xbytes M) pc = .ok (.invokevirtual index, 3)) (hh : xhh y = []) (hq : xcl[cc]? = some q) (hC : (xname y).cls = q.1) (hd : xPar y n) (q1 : Cond.methodLinkNest (xname M).cls index (xname y) host ∈ lw_tbl) (q2 : Cond.instanceMethod (xname y) ∈ lw_all) (q3 : Cond.selects q.1 (xname y) (xname y) ∈ lw_all) (q4 : Cond.initialized (xname y).cls ∈ lw_all) (q5 : Cond.code (xname y) (xbytes y) (xloc y) (xret y) ∈ lw_all) : CallOK s0 A0 D ta l M pc (n + 1) (some cc) y := by
  intro p e R s m args below meth c G F H locs cells slots lsM h As rest rm Pc Qc XC free hR hsz hn hw hr hM hfr hlo hf hp
  obtain ⟨a, As', w, rfl, ht⟩ := xrecv_of hr
  obtain ⟨b, cell, q', e1, e2, e3, e4, e5, e6, e7, -⟩ := xobj G F.2.2.2.2.2.2.2.2.1 hR ht
  rw [hq] at e5
  cases e5
  have hst : ((Sum.inr (Sum.inr a) :: As').map xcv).reverse ++ rest.map xcv = (As'.map xcv).reverse ++ .ref b :: rest.map xcv := by
    show (xrv a :: As'.map xcv).reverse ++ _ = _
    rw [xrv_pos e1]
    simp
  have har : ((Sum.inr (Sum.inr a) :: As').map xcv).toArray = (Value.ref b :: As'.map xcv).toArray := by
    show (xrv a :: As'.map xcv).toArray = _
    rw [xrv_pos e1]
  have hn' : (As'.map xcv).length = n := by
    rw [List.length_map]
    simpa using hn
  have hp' : PreS s H Pc (.ref b :: As'.map xcv) := by
    have h1 := hp
    rw [show (Sum.inr (Sum.inr a) :: As').map xcv = xrv a :: As'.map xcv from rfl, xrv_pos e1] at h1
    exact h1
  have ew : xws y = ws_ (xname y) (xbytes y) (xloc y) (xret y) := by unfold xws; rw [hh]
  rw [ew] at hM
  have hts := F.2.2.2.2.2.2.2.1
  have hWd : 2 * (F0 m pc lsM ((As'.map xcv).reverse ++ .ref b :: rest.map xcv)).monitorRoom + ((rest.map xcv).map fun v => v.category).sum ≤ 8 := by
    rw [xwords_sum]
    show 2 * 0 + _ ≤ _
    omega
  have S : CallFix p m c (xbytes M) (xloc M) s args lw_all (xname M).cls := ⟨F.1, F.2.1, F.2.2.2.2.1, F.2.2.2.2.2.1, hts⟩
  rw [hst, har]
  exact vx_runVN S hM ⟨va_cnB n hts (lw_meth q5) rfl rfl rfl (va_Nw.warmM F.2.2.2.2.2.2.2.2.1 (va_Nw.of rfl (G.1 _ q1))) (hts _ q4) hd ⟨hfr, hlo⟩, hts _ q2, hts _ q3⟩ ⟨hp'.1, ⟨cell, e2, e3, e7⟩, hp'.2⟩ rfl hn' hsz rfl hWd d hf
theorem ok_callI {s0 : State} {A0 : Array Value} {D : va_G} {ta : Nat → ClassId} {l : Launch} {M pc index n y : Nat} {cc : Nat} {q : vw_C} (d : decode (xbytes M) pc = .ok (.invokespecial index, 3)) (hh : xhh y = []) (hq : xcl[cc]? = some q) (hi : (xname y).name = "<init>") (hv : xret y = none) (hd : xPar y n) (q1 : Cond.methodLink (xname M).cls index (xname y) ∈ lw_all) (q2 : Cond.instanceMethod (xname y) ∈ lw_all) (q4 : Cond.initialized (xname y).cls ∈ lw_all) (q5 : Cond.code (xname y) (xbytes y) (xloc y) (xret y) ∈ lw_all) : CallOK s0 A0 D ta l M pc (n + 1) (some cc) y := by
  intro p e R s m args below meth c G F H locs cells slots lsM h As rest rm Pc Qc XC free hR hsz hn hw hr hM hfr hlo hf hp
  obtain ⟨a, As', w, rfl, ht⟩ := xrecv_of hr
  obtain ⟨b, cell, q', e1, e2, e3, e4, e5, e6, e7, -⟩ := xobj G F.2.2.2.2.2.2.2.2.1 hR ht
  rw [hq] at e5
  cases e5
  have hst : ((Sum.inr (Sum.inr a) :: As').map xcv).reverse ++ rest.map xcv = (As'.map xcv).reverse ++ .ref b :: rest.map xcv := by
    show (xrv a :: As'.map xcv).reverse ++ _ = _
    rw [xrv_pos e1]
    simp
  have har : ((Sum.inr (Sum.inr a) :: As').map xcv).toArray = (Value.ref b :: As'.map xcv).toArray := by
    show (xrv a :: As'.map xcv).toArray = _
    rw [xrv_pos e1]
  have hn' : (As'.map xcv).length = n := by
    rw [List.length_map]
    simpa using hn
  have hp' : PreS s H Pc (.ref b :: As'.map xcv) := by
    have h1 := hp
    rw [show (Sum.inr (Sum.inr a) :: As').map xcv = xrv a :: As'.map xcv from rfl, xrv_pos e1] at h1
    exact h1
  have ew : xws y = ws_ (xname y) (xbytes y) (xloc y) (xret y) := by unfold xws; rw [hh]
  rw [ew] at hM
  have hts := F.2.2.2.2.2.2.2.1
  have hWd : 2 * (F0 m pc lsM ((As'.map xcv).reverse ++ .ref b :: rest.map xcv)).monitorRoom + ((rest.map xcv).map fun v => v.category).sum ≤ 8 := by
    rw [xwords_sum]
    show 2 * 0 + _ ≤ _
    omega
  have S : CallFix p m c (xbytes M) (xloc M) s args lw_all (xname M).cls := ⟨F.1, F.2.1, F.2.2.2.2.1, F.2.2.2.2.2.1, hts⟩
  rw [hv] at hM q5
  rw [hst, har]
  exact vx_runI S hM (cwI n hts (lw_meth q5) rfl rfl rfl (hts _ q4) (hts _ q1) (hts _ q2) hi hd ⟨hfr, hlo⟩) hp' rfl hn' hsz rfl hWd d hf
theorem ok_callIN {s0 : State} {A0 : Array Value} {D : va_G} {ta : Nat → ClassId} {l : Launch} {M pc index n y : Nat} {cc : Nat} {q : vw_C} {host : String} (d : decode (xbytes M) pc = .ok (.invokespecial index, 3)) (hh : xhh y = []) (hq : xcl[cc]? = some q) (hi : (xname y).name = "<init>") (hv : xret y = none) (hd : xPar y n) (q1 : Cond.methodLinkNest (xname M).cls index (xname y) host ∈ lw_tbl) (q2 : Cond.instanceMethod (xname y) ∈ lw_all) (q4 : Cond.initialized (xname y).cls ∈ lw_all) (q5 : Cond.code (xname y) (xbytes y) (xloc y) (xret y) ∈ lw_all) : CallOK s0 A0 D ta l M pc (n + 1) (some cc) y := by
  intro p e R s m args below meth c G F H locs cells slots lsM h As rest rm Pc Qc XC free hR hsz hn hw hr hM hfr hlo hf hp
  obtain ⟨a, As', w, rfl, ht⟩ := xrecv_of hr
  obtain ⟨b, cell, q', e1, e2, e3, e4, e5, e6, e7, -⟩ := xobj G F.2.2.2.2.2.2.2.2.1 hR ht
  rw [hq] at e5
  cases e5
  have hst : ((Sum.inr (Sum.inr a) :: As').map xcv).reverse ++ rest.map xcv = (As'.map xcv).reverse ++ .ref b :: rest.map xcv := by
    show (xrv a :: As'.map xcv).reverse ++ _ = _
    rw [xrv_pos e1]
    simp
  have har : ((Sum.inr (Sum.inr a) :: As').map xcv).toArray = (Value.ref b :: As'.map xcv).toArray := by
    show (xrv a :: As'.map xcv).toArray = _
    rw [xrv_pos e1]
  have hn' : (As'.map xcv).length = n := by
    rw [List.length_map]
    simpa using hn
  have hp' : PreS s H Pc (.ref b :: As'.map xcv) := by
    have h1 := hp
    rw [show (Sum.inr (Sum.inr a) :: As').map xcv = xrv a :: As'.map xcv from rfl, xrv_pos e1] at h1
    exact h1
  have ew : xws y = ws_ (xname y) (xbytes y) (xloc y) (xret y) := by unfold xws; rw [hh]
  rw [ew] at hM
  have hts := F.2.2.2.2.2.2.2.1
  have hWd : 2 * (F0 m pc lsM ((As'.map xcv).reverse ++ .ref b :: rest.map xcv)).monitorRoom + ((rest.map xcv).map fun v => v.category).sum ≤ 8 := by
    rw [xwords_sum]
    show 2 * 0 + _ ≤ _
    omega
  have S : CallFix p m c (xbytes M) (xloc M) s args lw_all (xname M).cls := ⟨F.1, F.2.1, F.2.2.2.2.1, F.2.2.2.2.2.1, hts⟩
  rw [hv] at hM q5
  rw [hst, har]
  exact vx_runIN S hM ⟨va_cnB n hts (lw_meth q5) rfl rfl rfl (va_Nw.warmM F.2.2.2.2.2.2.2.2.1 (va_Nw.of rfl (G.1 _ q1))) (hts _ q4) hd ⟨hfr, hlo⟩, hi, hts _ q2⟩ hp' rfl hn' hsz rfl hWd d hf
theorem ok_callU {s0 : State} {A0 : Array Value} {D : va_G} {ta : Nat → ClassId} {l : Launch} {M pc index n y : Nat} {cc : Nat} {q : vw_C} {x : MethodName} (d : decode (xbytes M) pc = .ok (.invokevirtual index, 3)) (hh : xhh y = []) (hq : xcl[cc]? = some q) (hd : x.cls ≠ "java/lang/invoke/MethodHandle" ∧ x.cls ≠ "java/lang/invoke/VarHandle" ∧ (parseMethodDescriptor x.desc).map (fun d => d.parameters.length) = some n) (q1 : Cond.methodLink (xname M).cls index x ∈ lw_all) (q2 : Cond.sameMethod x.cls x.cls x.name x.desc ∈ lw_all) (q3 : Cond.selects q.1 x (xname y) ∈ lw_all) (q4 : Cond.instanceMethod (xname y) ∈ lw_all) (q5 : Cond.initialized (xname y).cls ∈ lw_all) (q6 : Cond.code (xname y) (xbytes y) (xloc y) (xret y) ∈ lw_all) (q7 : Cond.declares ⟨x.cls, x.name, x.desc⟩ ∈ lw_tbl) : CallOK s0 A0 D ta l M pc (n + 1) (some cc) y := by
  intro p e R s m args below meth c G F H locs cells slots lsM h As rest rm Pc Qc XC free hR hsz hn hw hr hM hfr hlo hf hp
  obtain ⟨a, As', w, rfl, ht⟩ := xrecv_of hr
  obtain ⟨b, cell, q', e1, e2, e3, e4, e5, e6, e7, -⟩ := xobj G F.2.2.2.2.2.2.2.2.1 hR ht
  rw [hq] at e5
  cases e5
  have hst : ((Sum.inr (Sum.inr a) :: As').map xcv).reverse ++ rest.map xcv = (As'.map xcv).reverse ++ .ref b :: rest.map xcv := by
    show (xrv a :: As'.map xcv).reverse ++ _ = _
    rw [xrv_pos e1]
    simp
  have har : ((Sum.inr (Sum.inr a) :: As').map xcv).toArray = (Value.ref b :: As'.map xcv).toArray := by
    show (xrv a :: As'.map xcv).toArray = _
    rw [xrv_pos e1]
  have hn' : (As'.map xcv).length = n := by
    rw [List.length_map]
    simpa using hn
  have hp' : PreS s H Pc (.ref b :: As'.map xcv) := by
    have h1 := hp
    rw [show (Sum.inr (Sum.inr a) :: As').map xcv = xrv a :: As'.map xcv from rfl, xrv_pos e1] at h1
    exact h1
  have ew : xws y = ws_ (xname y) (xbytes y) (xloc y) (xret y) := by unfold xws; rw [hh]
  rw [ew] at hM
  have hts := F.2.2.2.2.2.2.2.1
  have hWd : 2 * (F0 m pc lsM ((As'.map xcv).reverse ++ .ref b :: rest.map xcv)).monitorRoom + ((rest.map xcv).map fun v => v.category).sum ≤ 8 := by
    rw [xwords_sum]
    show 2 * 0 + _ ≤ _
    omega
  have S : CallFix p m c (xbytes M) (xloc M) s args lw_all (xname M).cls := ⟨F.1, F.2.1, F.2.2.2.2.1, F.2.2.2.2.2.1, hts⟩
  have hG : GoodIn lw_all (va_wsU (xname M).cls index q.1 x.cls x (xname y) (ws_ (xname y) (xbytes y) (xloc y) (xret y))) := by
    refine lw_app ?_ (lw_meth q6)
    intro w hw
    simp only [List.mem_cons, List.not_mem_nil, or_false] at hw
    rcases hw with e | e | e | e | e
    · rw [e]; exact q1
    · rw [e]; exact q2
    · rw [e]; exact q3
    · rw [e]; exact q4
    · rw [e]; exact q5
  rw [hst, har]
  exact vx_runU S hM (va_cwA n hts hG rfl rfl rfl (va_Nw.warmD F.2.2.2.2.2.2.2.2.1 (va_Nw.of rfl (G.1 _ q7))) hd ⟨hfr, hlo⟩) ⟨hp'.1, ⟨cell, e2, e3, e7⟩, hp'.2⟩ rfl hn' hsz rfl hWd d hf
theorem ok_callSU {s0 : State} {A0 : Array Value} {D : va_G} {ta : Nat → ClassId} {l : Launch} {M pc index n y : Nat} {cc : Nat} {q : vw_C} (d : decode (xbytes M) pc = .ok (.invokespecial index, 3)) (hh : xhh y = []) (hq : xcl[cc]? = some q) (hC : q.1 = (xname M).cls) (hd : (xname y).name ≠ "<init>" ∧ (parseMethodDescriptor (xname y).desc).map (fun d => d.parameters.length) = some n) (q1 : Cond.methodLink (xname M).cls index (xname y) ∈ lw_all) (q2 : Cond.sameMethod (xname y).cls (xname y).cls (xname y).name (xname y).desc ∈ lw_all) (q3 : Cond.superclass (xname M).cls (xname y).cls ∈ lw_all) (q4 : Cond.instanceMethod (xname y) ∈ lw_all) (q5 : Cond.initialized (xname y).cls ∈ lw_all) (q6 : Cond.code (xname y) (xbytes y) (xloc y) (xret y) ∈ lw_all) : CallOK s0 A0 D ta l M pc (n + 1) (some cc) y := by
  intro p e R s m args below meth c G F H locs cells slots lsM h As rest rm Pc Qc XC free hR hsz hn hw hr hM hfr hlo hf hp
  obtain ⟨a, As', w, rfl, ht⟩ := xrecv_of hr
  obtain ⟨b, cell, q', e1, e2, e3, e4, e5, e6, e7, -⟩ := xobj G F.2.2.2.2.2.2.2.2.1 hR ht
  rw [hq] at e5
  cases e5
  have hst : ((Sum.inr (Sum.inr a) :: As').map xcv).reverse ++ rest.map xcv = (As'.map xcv).reverse ++ .ref b :: rest.map xcv := by
    show (xrv a :: As'.map xcv).reverse ++ _ = _
    rw [xrv_pos e1]
    simp
  have har : ((Sum.inr (Sum.inr a) :: As').map xcv).toArray = (Value.ref b :: As'.map xcv).toArray := by
    show (xrv a :: As'.map xcv).toArray = _
    rw [xrv_pos e1]
  have hn' : (As'.map xcv).length = n := by
    rw [List.length_map]
    simpa using hn
  have hp' : PreS s H Pc (.ref b :: As'.map xcv) := by
    have h1 := hp
    rw [show (Sum.inr (Sum.inr a) :: As').map xcv = xrv a :: As'.map xcv from rfl, xrv_pos e1] at h1
    exact h1
  have ew : xws y = ws_ (xname y) (xbytes y) (xloc y) (xret y) := by unfold xws; rw [hh]
  rw [ew] at hM
  have hts := F.2.2.2.2.2.2.2.1
  have hWd : 2 * (F0 m pc lsM ((As'.map xcv).reverse ++ .ref b :: rest.map xcv)).monitorRoom + ((rest.map xcv).map fun v => v.category).sum ≤ 8 := by
    rw [xwords_sum]
    show 2 * 0 + _ ≤ _
    omega
  have S : CallFix p m c (xbytes M) (xloc M) s args lw_all (xname M).cls := ⟨F.1, F.2.1, F.2.2.2.2.1, F.2.2.2.2.2.1, hts⟩
  have hG : GoodIn lw_all (va_wsSU (xname M).cls index (xname y) (ws_ (xname y) (xbytes y) (xloc y) (xret y))) := by
    refine lw_app ?_ (lw_meth q6)
    intro w hw
    simp only [List.mem_cons, List.not_mem_nil, or_false] at hw
    rcases hw with e | e | e | e | e
    · rw [e]; exact q1
    · rw [e]; exact q2
    · rw [e]; exact q3
    · rw [e]; exact q4
    · rw [e]; exact q5
  rw [hst, har]
  rw [hC] at e6 e7
  exact vx_runSU e6 S hM (va_cwSU n hts hG rfl rfl rfl hd ⟨hfr, hlo⟩) ⟨hp'.1, ⟨cell, e2, e3, e7⟩, hp'.2⟩ rfl hn' hsz rfl hWd d hf
