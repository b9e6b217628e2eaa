set_option maxRecDepth 100000
theorem xrv_or (z : Int) : xcv (.inr (.inr z)) = .null ∨ ∃ a : Nat, xcv (.inr (.inr z)) = .ref a := by
  show xrv z = _ ∨ _
  by_cases h : z ≤ 0
  · exact Or.inl (by unfold xrv; rw [if_pos h])
  · refine Or.inr ⟨(z - 1).toNat, ?_⟩
    show xrv z = _
    unfold xrv
    rw [if_neg h]
theorem xw8_ok (a : Int) : xok (.inl (xw8 a)) := by
  have h1 := (Int8.ofInt a).le_toInt
  have h2 := (Int8.ofInt a).toInt_lt
  exact ⟨by unfold xw8; omega, by unfold xw8; omega⟩
theorem x_cmp {a b : Int} (ha : xok (.inr (.inl a))) (hb : xok (.inr (.inl b))) : lg_cmp (Int64.ofInt a) (Int64.ofInt b) = Int32.ofInt (xcmp a b) := by
  unfold lg_cmp xcmp
  have e1 : Int64.ofInt a > Int64.ofInt b ↔ b < a := by
    show Int64.ofInt b < Int64.ofInt a ↔ _
    rw [Int64.lt_iff_toInt_lt, x64 ha, x64 hb]
  have e2 : Int64.ofInt a = Int64.ofInt b ↔ a = b := by rw [← Int64.toInt_inj, x64 ha, x64 hb]
  by_cases h1 : b < a
  · rw [if_pos (e1.mpr h1), if_pos h1]
    rfl
  · rw [if_neg (fun q => h1 (e1.mp q)), if_neg h1]
    by_cases h2 : a = b
    · rw [if_pos (e2.mpr h2), if_pos h2]
      rfl
    · rw [if_neg (fun q => h2 (e2.mp q)), if_neg h2]
      rfl
theorem xcmp_ok (a b : Int) : xok (.inl (xcmp a b)) := by
  unfold xcmp
  split
  · exact ⟨by decide, by decide⟩
  · split
    · exact ⟨by decide, by decide⟩
    · exact ⟨by decide, by decide⟩
/-! THE MINI-MACHINE IS SOUND, 3: step by step -/
set_option maxRecDepth 100000
set_option maxHeartbeats 4000000
theorem ActOK.stk0 {s0 : State} {A0 : Array Value} {D : va_G} {ta : Nat → ClassId} {l : Launch} {M pc : Nat} {act : XA0}
    (k : ∀ (ls : XL) (st : XS) (h : XH) (pc' : Nat) (ls' : XL) (st' : XS) (h' : XH), act ls st h = some (pc', ls', st', h') → h' = h ∧ ls' = ls ∧ (xokS st → xokL ls → (∀ k : Nat, 0 ≤ xcs h k) → xokS st') ∧
      ∀ (p : Program) (e : Env) (R : Room) (s : State) (m : MethodId) (args : Array Value) (below : List Frame) (meth : Method) (c : Code), XG s0 A0 D ta l → XF s0 M p s m args meth c → 8 ≤ R.frames → 512 ≤ R.locals →
      ∀ (Q : State → Prop) (H : Heap) (locs : List Loc) (cells slots : Nat) (lsM : Array Slot), XCf s0 D ta M h ls st H locs lsM →
      W p l e R s m args below meth c H locs cells slots Q (F0 m pc' lsM (st'.map xcv)) → W p l e R s m args below meth c H locs cells slots Q (F0 m pc lsM (st.map xcv))) : ActOK s0 A0 D ta l M pc (x01 act) := by
  refine ActOK.stk fun ls st h g pc' ls' st' h' ha hg => ?_
  unfold x01 at ha
  split at ha
  · next r hr =>
    cases ha
    exact k ls st h pc' ls' st' h' hr
  · cases ha
theorem ok_iconst {s0 : State} {A0 : Array Value} {D : va_G} {ta : Nat → ClassId} {l : Launch} {M pc np : Nat} {n k : Int} (d : decode (xbytes M) pc = .ok (.iconst n, 1)) (hp : pc + 1 = np) (hv : Int32.ofInt n = Int32.ofInt k) (hr : -2147483648 ≤ k ∧ k < 2147483648) : ActOK s0 A0 D ta l M pc (x01 (xaI k np)) := by
  refine ActOK.stk0 fun ls st h pc' ls' st' h' ha => ?_
  subst hp
  unfold xaI at ha
  cases ha
  refine ⟨rfl, rfl, fun o oL oc => ?_, fun p e R s m args below meth c G F hf hl Q H locs cells slots lsM C k => ?_⟩
  · exact xokS_k hr o
  · exact lv_iconst F.1 F.2.1 d hv k
theorem ok_bipush {s0 : State} {A0 : Array Value} {D : va_G} {ta : Nat → ClassId} {l : Launch} {M pc np : Nat} {n k : Int} (d : decode (xbytes M) pc = .ok (.bipush n, 2)) (hp : pc + 2 = np) (hv : (Int8.ofInt n).toInt32 = Int32.ofInt k) (hr : -2147483648 ≤ k ∧ k < 2147483648) : ActOK s0 A0 D ta l M pc (x01 (xaI k np)) := by
  refine ActOK.stk0 fun ls st h pc' ls' st' h' ha => ?_
  subst hp
  unfold xaI at ha
  cases ha
  refine ⟨rfl, rfl, fun o oL oc => ?_, fun p e R s m args below meth c G F hf hl Q H locs cells slots lsM C k => ?_⟩
  · exact xokS_k hr o
  · exact lv_bipush F.1 F.2.1 d hv k
theorem ok_sipush {s0 : State} {A0 : Array Value} {D : va_G} {ta : Nat → ClassId} {l : Launch} {M pc np : Nat} {n k : Int} (d : decode (xbytes M) pc = .ok (.sipush n, 3)) (hp : pc + 3 = np) (hv : (Int16.ofInt n).toInt32 = Int32.ofInt k) (hr : -2147483648 ≤ k ∧ k < 2147483648) : ActOK s0 A0 D ta l M pc (x01 (xaI k np)) := by
  refine ActOK.stk0 fun ls st h pc' ls' st' h' ha => ?_
  subst hp
  unfold xaI at ha
  cases ha
  refine ⟨rfl, rfl, fun o oL oc => ?_, fun p e R s m args below meth c G F hf hl Q H locs cells slots lsM C k => ?_⟩
  · exact xokS_k hr o
  · exact lv_sipush F.1 F.2.1 d hv k
theorem ok_ldc {s0 : State} {A0 : Array Value} {D : va_G} {ta : Nat → ClassId} {l : Launch} {M pc np : Nat} {index : Nat} {k : Int} {v : Int32} (d : decode (xbytes M) pc = .ok (.ldc index, 2)) (hp : pc + 2 = np) (q : Cond.constant (xname M).cls index v ∈ lw_all) (hv : v = Int32.ofInt k) (hr : -2147483648 ≤ k ∧ k < 2147483648) : ActOK s0 A0 D ta l M pc (x01 (xaI k np)) := by
  refine ActOK.stk0 fun ls st h pc' ls' st' h' ha => ?_
  subst hp; subst hv
  unfold xaI at ha
  cases ha
  refine ⟨rfl, rfl, fun o oL oc => ?_, fun p e R s m args below meth c G F hf hl Q H locs cells slots lsM C k => ?_⟩
  · exact xokS_k hr o
  · exact lv_ldc F.1 F.2.1 F.2.2.2.2.2.1 (F.2.2.2.2.2.2.2.1 _ q) d k
theorem ok_ldcw {s0 : State} {A0 : Array Value} {D : va_G} {ta : Nat → ClassId} {l : Launch} {M pc np : Nat} {index : Nat} {k : Int} {v : Int32} (d : decode (xbytes M) pc = .ok (.ldc_w index, 3)) (hp : pc + 3 = np) (q : Cond.constant (xname M).cls index v ∈ lw_all) (hv : v = Int32.ofInt k) (hr : -2147483648 ≤ k ∧ k < 2147483648) : ActOK s0 A0 D ta l M pc (x01 (xaI k np)) := by
  refine ActOK.stk0 fun ls st h pc' ls' st' h' ha => ?_
  subst hp; subst hv
  unfold xaI at ha
  cases ha
  refine ⟨rfl, rfl, fun o oL oc => ?_, fun p e R s m args below meth c G F hf hl Q H locs cells slots lsM C k => ?_⟩
  · exact xokS_k hr o
  · exact lv_ldcw F.1 F.2.1 F.2.2.2.2.2.1 (F.2.2.2.2.2.2.2.1 _ q) d k
theorem ok_lconst {s0 : State} {A0 : Array Value} {D : va_G} {ta : Nat → ClassId} {l : Launch} {M pc np : Nat} {n : Fin 2} {k : Int} (d : decode (xbytes M) pc = .ok (.lconst n, 1)) (hp : pc + 1 = np) (hv : Int64.ofNat (n : Nat) = Int64.ofInt k) (hr : -9223372036854775808 ≤ k ∧ k < 9223372036854775808) : ActOK s0 A0 D ta l M pc (x01 (xaL k np)) := by
  refine ActOK.stk0 fun ls st h pc' ls' st' h' ha => ?_
  subst hp
  unfold xaL at ha
  cases ha
  refine ⟨rfl, rfl, fun o oL oc => ?_, fun p e R s m args below meth c G F hf hl Q H locs cells slots lsM C k => ?_⟩
  · exact xokS_k hr o
  · exact lv_lconst F.1 F.2.1 d hv k
theorem ok_ldc2 {s0 : State} {A0 : Array Value} {D : va_G} {ta : Nat → ClassId} {l : Launch} {M pc np : Nat} {index : Nat} {k : Int} {v : Int64} (d : decode (xbytes M) pc = .ok (.ldc2_w index, 3)) (hp : pc + 3 = np) (q : Cond.constantLong (xname M).cls index v ∈ lw_all) (hv : v = Int64.ofInt k) (hr : -9223372036854775808 ≤ k ∧ k < 9223372036854775808) : ActOK s0 A0 D ta l M pc (x01 (xaL k np)) := by
  refine ActOK.stk0 fun ls st h pc' ls' st' h' ha => ?_
  subst hp; subst hv
  unfold xaL at ha
  cases ha
  refine ⟨rfl, rfl, fun o oL oc => ?_, fun p e R s m args below meth c G F hf hl Q H locs cells slots lsM C k => ?_⟩
  · exact xokS_k hr o
  · exact lv_ldc2 F.1 F.2.1 F.2.2.2.2.2.1 (F.2.2.2.2.2.2.2.1 _ q) d k
theorem ok_null {s0 : State} {A0 : Array Value} {D : va_G} {ta : Nat → ClassId} {l : Launch} {M pc np : Nat} (d : decode (xbytes M) pc = .ok (.aconst_null, 1)) (hp : pc + 1 = np) : ActOK s0 A0 D ta l M pc (x01 (xaNull np)) := by
  refine ActOK.stk0 fun ls st h pc' ls' st' h' ha => ?_
  subst hp
  unfold xaNull at ha
  cases ha
  refine ⟨rfl, rfl, fun o oL oc => ?_, fun p e R s m args below meth c G F hf hl Q H locs cells slots lsM C k => ?_⟩
  · exact xokS_k (Int.le_refl 0) o
  · exact lv_null F.1 F.2.1 d k
theorem ok_goto {s0 : State} {A0 : Array Value} {D : va_G} {ta : Nat → ClassId} {l : Launch} {M pc np : Nat} {off : Int} (d : decode (xbytes M) pc = .ok (.goto off, 3)) (hp : (pc : Int) + off = (np : Int)) : ActOK s0 A0 D ta l M pc (x01 (xaGo np)) := by
  refine ActOK.stk0 fun ls st h pc' ls' st' h' ha => ?_
  unfold xaGo at ha
  cases ha
  refine ⟨rfl, rfl, fun o oL oc => ?_, fun p e R s m args below meth c G F hf hl Q H locs cells slots lsM C k => ?_⟩
  · exact o
  · exact lv_goto F.1 F.2.1 d hp k
theorem ok_iload_n {s0 : State} {A0 : Array Value} {D : va_G} {ta : Nat → ClassId} {l : Launch} {M pc np : Nat} {i : Fin 4} {j : Nat} (d : decode (xbytes M) pc = .ok (.iload_n i, 1)) (hp : pc + 1 = np) (hj : (i : Nat) = j) : ActOK s0 A0 D ta l M pc (x01 (xaLdI j np)) := by
  refine ActOK.stk0 fun ls st h pc' ls' st' h' ha => ?_
  subst hp
  unfold xaLdI at ha
  split at ha
  · next z hz =>
    cases ha
    refine ⟨rfl, rfl, fun o oL oc => ?_, fun p e R s m args below meth c G F hf hl Q H locs cells slots lsM C k => ?_⟩
    · exact xokS_k (xget_ok oL hz) o
    · have hq := C.2.2.1.1.2.2 _ (xll_get ls 0 j _ hz)
      rw [Nat.zero_add] at hq
      exact lv_iload_n F.1 F.2.1 d hj hq k
  · cases ha
theorem ok_iload {s0 : State} {A0 : Array Value} {D : va_G} {ta : Nat → ClassId} {l : Launch} {M pc np : Nat}  {j : Nat} (d : decode (xbytes M) pc = .ok (.iload j, 2)) (hp : pc + 2 = np) : ActOK s0 A0 D ta l M pc (x01 (xaLdI j np)) := by
  refine ActOK.stk0 fun ls st h pc' ls' st' h' ha => ?_
  subst hp
  unfold xaLdI at ha
  split at ha
  · next z hz =>
    cases ha
    refine ⟨rfl, rfl, fun o oL oc => ?_, fun p e R s m args below meth c G F hf hl Q H locs cells slots lsM C k => ?_⟩
    · exact xokS_k (xget_ok oL hz) o
    · have hq := C.2.2.1.1.2.2 _ (xll_get ls 0 j _ hz)
      rw [Nat.zero_add] at hq
      exact lv_iload F.1 F.2.1 d  hq k
  · cases ha
theorem ok_lload_n {s0 : State} {A0 : Array Value} {D : va_G} {ta : Nat → ClassId} {l : Launch} {M pc np : Nat} {i : Fin 4} {j : Nat} (d : decode (xbytes M) pc = .ok (.lload_n i, 1)) (hp : pc + 1 = np) (hj : (i : Nat) = j) : ActOK s0 A0 D ta l M pc (x01 (xaLdJ j np)) := by
  refine ActOK.stk0 fun ls st h pc' ls' st' h' ha => ?_
  subst hp
  unfold xaLdJ at ha
  split at ha
  · next z hz =>
    cases ha
    refine ⟨rfl, rfl, fun o oL oc => ?_, fun p e R s m args below meth c G F hf hl Q H locs cells slots lsM C k => ?_⟩
    · exact xokS_k (xget_ok oL hz) o
    · have hq := C.2.2.1.1.2.2 _ (xll_get ls 0 j _ hz)
      rw [Nat.zero_add] at hq
      exact lv_lload_n F.1 F.2.1 d hj hq k
  · cases ha
theorem ok_lload {s0 : State} {A0 : Array Value} {D : va_G} {ta : Nat → ClassId} {l : Launch} {M pc np : Nat}  {j : Nat} (d : decode (xbytes M) pc = .ok (.lload j, 2)) (hp : pc + 2 = np) : ActOK s0 A0 D ta l M pc (x01 (xaLdJ j np)) := by
  refine ActOK.stk0 fun ls st h pc' ls' st' h' ha => ?_
  subst hp
  unfold xaLdJ at ha
  split at ha
  · next z hz =>
    cases ha
    refine ⟨rfl, rfl, fun o oL oc => ?_, fun p e R s m args below meth c G F hf hl Q H locs cells slots lsM C k => ?_⟩
    · exact xokS_k (xget_ok oL hz) o
    · have hq := C.2.2.1.1.2.2 _ (xll_get ls 0 j _ hz)
      rw [Nat.zero_add] at hq
      exact lv_lload F.1 F.2.1 d  hq k
  · cases ha
theorem ok_aload_n {s0 : State} {A0 : Array Value} {D : va_G} {ta : Nat → ClassId} {l : Launch} {M pc np : Nat} {i : Fin 4} {j : Nat} (d : decode (xbytes M) pc = .ok (.aload_n i, 1)) (hp : pc + 1 = np) (hj : (i : Nat) = j) : ActOK s0 A0 D ta l M pc (x01 (xaLdA j np)) := by
  refine ActOK.stk0 fun ls st h pc' ls' st' h' ha => ?_
  subst hp
  unfold xaLdA at ha
  split at ha
  · next z hz =>
    cases ha
    refine ⟨rfl, rfl, fun o oL oc => ?_, fun p e R s m args below meth c G F hf hl Q H locs cells slots lsM C k => ?_⟩
    · exact xokS_k (xget_ok oL hz) o
    · have hq := C.2.2.1.1.2.2 _ (xll_get ls 0 j _ hz)
      rw [Nat.zero_add] at hq
      have hz2 : xcv (.inr (.inr z)) = .null ∨ ∃ a : Nat, xcv (.inr (.inr z)) = .ref a := xrv_or z
      rcases hz2 with e1 | ⟨a, e1⟩
      · rw [e1] at hq
        have k : W p l e R s m args below meth c H locs cells slots Q (F0 m (pc + 1) lsM (xcv (.inr (.inr z)) :: st.map xcv)) := k
        rw [e1] at k
        exact lv_aload_nN F.1 F.2.1 d hj hq k
      · rw [e1] at hq
        have k : W p l e R s m args below meth c H locs cells slots Q (F0 m (pc + 1) lsM (xcv (.inr (.inr z)) :: st.map xcv)) := k
        rw [e1] at k
        exact lv_aload_n F.1 F.2.1 d hj hq k
  · cases ha
theorem ok_aload {s0 : State} {A0 : Array Value} {D : va_G} {ta : Nat → ClassId} {l : Launch} {M pc np : Nat}  {j : Nat} (d : decode (xbytes M) pc = .ok (.aload j, 2)) (hp : pc + 2 = np) : ActOK s0 A0 D ta l M pc (x01 (xaLdA j np)) := by
  refine ActOK.stk0 fun ls st h pc' ls' st' h' ha => ?_
  subst hp
  unfold xaLdA at ha
  split at ha
  · next z hz =>
    cases ha
    refine ⟨rfl, rfl, fun o oL oc => ?_, fun p e R s m args below meth c G F hf hl Q H locs cells slots lsM C k => ?_⟩
    · exact xokS_k (xget_ok oL hz) o
    · have hq := C.2.2.1.1.2.2 _ (xll_get ls 0 j _ hz)
      rw [Nat.zero_add] at hq
      have hz2 : xcv (.inr (.inr z)) = .null ∨ ∃ a : Nat, xcv (.inr (.inr z)) = .ref a := xrv_or z
      rcases hz2 with e1 | ⟨a, e1⟩
      · rw [e1] at hq
        have k : W p l e R s m args below meth c H locs cells slots Q (F0 m (pc + 2) lsM (xcv (.inr (.inr z)) :: st.map xcv)) := k
        rw [e1] at k
        exact lv_aloadN F.1 F.2.1 d  hq k
      · rw [e1] at hq
        have k : W p l e R s m args below meth c H locs cells slots Q (F0 m (pc + 2) lsM (xcv (.inr (.inr z)) :: st.map xcv)) := k
        rw [e1] at k
        exact lv_aload F.1 F.2.1 d  hq k
  · cases ha
theorem xc1_cat {v : XV} (h : xc1 v = true) : (xcv v).category = 1 := by rw [xcv_cat, h]; rfl
theorem ok_dup {s0 : State} {A0 : Array Value} {D : va_G} {ta : Nat → ClassId} {l : Launch} {M pc np : Nat} (d : decode (xbytes M) pc = .ok (.dup, 1)) (hp : pc + 1 = np) : ActOK s0 A0 D ta l M pc (x01 (xaDup np)) := by
  refine ActOK.stk0 fun ls st h pc' ls' st' h' ha => ?_
  subst hp
  unfold xaDup at ha
  split at ha
  · next v r =>
    split at ha
    · next hc =>
      cases ha
      refine ⟨rfl, rfl, fun o oL oc => xokS_k (xokS_c o).1 o, fun p e R s m args below meth c G F hf hl Q H locs cells slots lsM C k => ?_⟩
      exact lv_dup F.1 F.2.1 d (xc1_cat hc) k
    · cases ha
  · cases ha
theorem ok_dup2 {s0 : State} {A0 : Array Value} {D : va_G} {ta : Nat → ClassId} {l : Launch} {M pc np : Nat} (d : decode (xbytes M) pc = .ok (.dup2, 1)) (hp : pc + 1 = np) : ActOK s0 A0 D ta l M pc (x01 (xaDup2 np)) := by
  refine ActOK.stk0 fun ls st h pc' ls' st' h' ha => ?_
  subst hp
  unfold xaDup2 at ha
  split at ha
  · next v w r =>
    split at ha
    · next hc =>
      cases ha
      rw [Bool.and_eq_true] at hc
      refine ⟨rfl, rfl, fun o oL oc => xokS_k (xokS_c o).1 (xokS_k (xokS_c (xokS_c o).2).1 o), fun p e R s m args below meth c G F hf hl Q H locs cells slots lsM C k => ?_⟩
      exact lv_dup2_11 F.1 F.2.1 d (xc1_cat hc.1) (xc1_cat hc.2) k
    · cases ha
  · cases ha
theorem ok_pop {s0 : State} {A0 : Array Value} {D : va_G} {ta : Nat → ClassId} {l : Launch} {M pc np : Nat} (d : decode (xbytes M) pc = .ok (.pop, 1)) (hp : pc + 1 = np) : ActOK s0 A0 D ta l M pc (x01 (xaPop np)) := by
  refine ActOK.stk0 fun ls st h pc' ls' st' h' ha => ?_
  subst hp
  unfold xaPop at ha
  split at ha
  · next v r =>
    split at ha
    · next hc =>
      cases ha
      refine ⟨rfl, rfl, fun o oL oc => (xokS_c o).2, fun p e R s m args below meth c G F hf hl Q H locs cells slots lsM C k => ?_⟩
      exact lv_pop F.1 F.2.1 d (xc1_cat hc) k
    · cases ha
  · cases ha
theorem ok_iadd {s0 : State} {A0 : Array Value} {D : va_G} {ta : Nat → ClassId} {l : Launch} {M pc np : Nat} (d : decode (xbytes M) pc = .ok (.iadd, 1)) (hp : pc + 1 = np) : ActOK s0 A0 D ta l M pc (xaAdd np) := by
  refine ActOK.stk fun ls st h g pc' ls' st' h' ha hg => ?_
  subst hp
  unfold xaAdd at ha
  split at ha
  · next b a r =>
    cases ha
    refine ⟨rfl, rfl, fun o oL oc => ?_, fun p e R s m args below meth c G F hf hl Q H locs cells slots lsM C k => ?_⟩
    · exact xokS_k hg (xokS_c (xokS_c o).2).2
    · refine lv_iadd F.1 F.2.1 d ?_
      rw [← Int32.ofInt_add]
      exact k
  · cases ha
theorem ok_isub {s0 : State} {A0 : Array Value} {D : va_G} {ta : Nat → ClassId} {l : Launch} {M pc np : Nat} (d : decode (xbytes M) pc = .ok (.isub, 1)) (hp : pc + 1 = np) : ActOK s0 A0 D ta l M pc (xaSub np) := by
  refine ActOK.stk fun ls st h g pc' ls' st' h' ha hg => ?_
  subst hp
  unfold xaSub at ha
  split at ha
  · next b a r =>
    cases ha
    refine ⟨rfl, rfl, fun o oL oc => ?_, fun p e R s m args below meth c G F hf hl Q H locs cells slots lsM C k => ?_⟩
    · exact xokS_k hg (xokS_c (xokS_c o).2).2
    · refine lv_isub F.1 F.2.1 d ?_
      rw [← Int32.ofInt_sub]
      exact k
  · cases ha
theorem ok_imul {s0 : State} {A0 : Array Value} {D : va_G} {ta : Nat → ClassId} {l : Launch} {M pc np : Nat} (d : decode (xbytes M) pc = .ok (.imul, 1)) (hp : pc + 1 = np) : ActOK s0 A0 D ta l M pc (xaMul np) := by
  refine ActOK.stk fun ls st h g pc' ls' st' h' ha hg => ?_
  subst hp
  unfold xaMul at ha
  split at ha
  · next b a r =>
    cases ha
    refine ⟨rfl, rfl, fun o oL oc => ?_, fun p e R s m args below meth c G F hf hl Q H locs cells slots lsM C k => ?_⟩
    · exact xokS_k hg (xokS_c (xokS_c o).2).2
    · refine lv_imul F.1 F.2.1 d ?_
      rw [← Int32.ofInt_mul]
      exact k
  · cases ha
theorem ok_ladd {s0 : State} {A0 : Array Value} {D : va_G} {ta : Nat → ClassId} {l : Launch} {M pc np : Nat} (d : decode (xbytes M) pc = .ok (.ladd, 1)) (hp : pc + 1 = np) : ActOK s0 A0 D ta l M pc (xaLAdd np) := by
  refine ActOK.stk fun ls st h g pc' ls' st' h' ha hg => ?_
  subst hp
  unfold xaLAdd at ha
  split at ha
  · next b a r =>
    cases ha
    refine ⟨rfl, rfl, fun o oL oc => ?_, fun p e R s m args below meth c G F hf hl Q H locs cells slots lsM C k => ?_⟩
    · exact xokS_k hg (xokS_c (xokS_c o).2).2
    · refine lv_ladd F.1 F.2.1 d ?_
      rw [← Int64.ofInt_add]
      exact k
  · cases ha
theorem ok_lsub {s0 : State} {A0 : Array Value} {D : va_G} {ta : Nat → ClassId} {l : Launch} {M pc np : Nat} (d : decode (xbytes M) pc = .ok (.lsub, 1)) (hp : pc + 1 = np) : ActOK s0 A0 D ta l M pc (xaLSub np) := by
  refine ActOK.stk fun ls st h g pc' ls' st' h' ha hg => ?_
  subst hp
  unfold xaLSub at ha
  split at ha
  · next b a r =>
    cases ha
    refine ⟨rfl, rfl, fun o oL oc => ?_, fun p e R s m args below meth c G F hf hl Q H locs cells slots lsM C k => ?_⟩
    · exact xokS_k hg (xokS_c (xokS_c o).2).2
    · refine lv_lsub F.1 F.2.1 d ?_
      rw [← Int64.ofInt_sub]
      exact k
  · cases ha
theorem ok_lmul {s0 : State} {A0 : Array Value} {D : va_G} {ta : Nat → ClassId} {l : Launch} {M pc np : Nat} (d : decode (xbytes M) pc = .ok (.lmul, 1)) (hp : pc + 1 = np) : ActOK s0 A0 D ta l M pc (xaLMul np) := by
  refine ActOK.stk fun ls st h g pc' ls' st' h' ha hg => ?_
  subst hp
  unfold xaLMul at ha
  split at ha
  · next b a r =>
    cases ha
    refine ⟨rfl, rfl, fun o oL oc => ?_, fun p e R s m args below meth c G F hf hl Q H locs cells slots lsM C k => ?_⟩
    · exact xokS_k hg (xokS_c (xokS_c o).2).2
    · refine lv_lmul F.1 F.2.1 d ?_
      rw [← Int64.ofInt_mul]
      exact k
  · cases ha
theorem ok_iaddW {s0 : State} {A0 : Array Value} {D : va_G} {ta : Nat → ClassId} {l : Launch} {M pc np : Nat} (d : decode (xbytes M) pc = .ok (.iadd, 1)) (hp : pc + 1 = np) : ActOK s0 A0 D ta l M pc (x01 (xaAddW np)) := by
  refine ActOK.stk0 fun ls st h pc' ls' st' h' ha => ?_
  subst hp
  unfold xaAddW at ha
  split at ha
  · next b a r =>
    cases ha
    refine ⟨rfl, rfl, fun o oL oc => ?_, fun p e R s m args below meth c G F hf hl Q H locs cells slots lsM C k => ?_⟩
    · exact xokS_k (x32i _) (xokS_c (xokS_c o).2).2
    · refine lv_iadd F.1 F.2.1 d ?_
      rw [← Int32.ofInt_add]
      have k : W p l e R s m args below meth c H locs cells slots Q (F0 m (pc + 1) lsM (.int (Int32.ofInt (xw32 _)) :: r.map xcv)) := k
      unfold xw32 at k
      rw [Int32.ofInt_toInt] at k
      exact k
  · cases ha
theorem ok_imulW {s0 : State} {A0 : Array Value} {D : va_G} {ta : Nat → ClassId} {l : Launch} {M pc np : Nat} (d : decode (xbytes M) pc = .ok (.imul, 1)) (hp : pc + 1 = np) : ActOK s0 A0 D ta l M pc (x01 (xaMulW np)) := by
  refine ActOK.stk0 fun ls st h pc' ls' st' h' ha => ?_
  subst hp
  unfold xaMulW at ha
  split at ha
  · next b a r =>
    cases ha
    refine ⟨rfl, rfl, fun o oL oc => ?_, fun p e R s m args below meth c G F hf hl Q H locs cells slots lsM C k => ?_⟩
    · exact xokS_k (x32i _) (xokS_c (xokS_c o).2).2
    · refine lv_imul F.1 F.2.1 d ?_
      rw [← Int32.ofInt_mul]
      have k : W p l e R s m args below meth c H locs cells slots Q (F0 m (pc + 1) lsM (.int (Int32.ofInt (xw32 _)) :: r.map xcv)) := k
      unfold xw32 at k
      rw [Int32.ofInt_toInt] at k
      exact k
  · cases ha
theorem ok_iand {s0 : State} {A0 : Array Value} {D : va_G} {ta : Nat → ClassId} {l : Launch} {M pc np : Nat} (d : decode (xbytes M) pc = .ok (.iand, 1)) (hp : pc + 1 = np) : ActOK s0 A0 D ta l M pc (x01 (xaAnd np)) := by
  refine ActOK.stk0 fun ls st h pc' ls' st' h' ha => ?_
  subst hp
  unfold xaAnd at ha
  split at ha
  · next b a r =>
    cases ha
    refine ⟨rfl, rfl, fun o oL oc => ?_, fun p e R s m args below meth c G F hf hl Q H locs cells slots lsM C k => ?_⟩
    · exact xokS_k (x32i _) (xokS_c (xokS_c o).2).2
    · refine lv_iand F.1 F.2.1 d ?_
      have k : W p l e R s m args below meth c H locs cells slots Q (F0 m (pc + 1) lsM (.int (Int32.ofInt (xand _ _)) :: r.map xcv)) := k
      unfold xand at k
      rw [Int32.ofInt_toInt] at k
      exact k
  · cases ha
theorem ok_ior {s0 : State} {A0 : Array Value} {D : va_G} {ta : Nat → ClassId} {l : Launch} {M pc np : Nat} (d : decode (xbytes M) pc = .ok (.ior, 1)) (hp : pc + 1 = np) : ActOK s0 A0 D ta l M pc (x01 (xaOr np)) := by
  refine ActOK.stk0 fun ls st h pc' ls' st' h' ha => ?_
  subst hp
  unfold xaOr at ha
  split at ha
  · next b a r =>
    cases ha
    refine ⟨rfl, rfl, fun o oL oc => ?_, fun p e R s m args below meth c G F hf hl Q H locs cells slots lsM C k => ?_⟩
    · exact xokS_k (x32i _) (xokS_c (xokS_c o).2).2
    · refine lv_ior F.1 F.2.1 d ?_
      have k : W p l e R s m args below meth c H locs cells slots Q (F0 m (pc + 1) lsM (.int (Int32.ofInt (xor_ _ _)) :: r.map xcv)) := k
      unfold xor_ at k
      rw [Int32.ofInt_toInt] at k
      exact k
  · cases ha
theorem ok_ixor {s0 : State} {A0 : Array Value} {D : va_G} {ta : Nat → ClassId} {l : Launch} {M pc np : Nat} (d : decode (xbytes M) pc = .ok (.ixor, 1)) (hp : pc + 1 = np) : ActOK s0 A0 D ta l M pc (x01 (xaXor np)) := by
  refine ActOK.stk0 fun ls st h pc' ls' st' h' ha => ?_
  subst hp
  unfold xaXor at ha
  split at ha
  · next b a r =>
    cases ha
    refine ⟨rfl, rfl, fun o oL oc => ?_, fun p e R s m args below meth c G F hf hl Q H locs cells slots lsM C k => ?_⟩
    · exact xokS_k (x32i _) (xokS_c (xokS_c o).2).2
    · refine lv_ixor F.1 F.2.1 d ?_
      have k : W p l e R s m args below meth c H locs cells slots Q (F0 m (pc + 1) lsM (.int (Int32.ofInt (xxor _ _)) :: r.map xcv)) := k
      unfold xxor at k
      rw [Int32.ofInt_toInt] at k
      exact k
  · cases ha
theorem ok_iushr {s0 : State} {A0 : Array Value} {D : va_G} {ta : Nat → ClassId} {l : Launch} {M pc np : Nat} (d : decode (xbytes M) pc = .ok (.iushr, 1)) (hp : pc + 1 = np) : ActOK s0 A0 D ta l M pc (x01 (xaUshr np)) := by
  refine ActOK.stk0 fun ls st h pc' ls' st' h' ha => ?_
  subst hp
  unfold xaUshr at ha
  split at ha
  · next b a r =>
    cases ha
    refine ⟨rfl, rfl, fun o oL oc => ?_, fun p e R s m args below meth c G F hf hl Q H locs cells slots lsM C k => ?_⟩
    · exact xokS_k (x32i _) (xokS_c (xokS_c o).2).2
    · refine lv_iushr F.1 F.2.1 d rfl ?_
      have k : W p l e R s m args below meth c H locs cells slots Q (F0 m (pc + 1) lsM (.int (Int32.ofInt (xushr _ _)) :: r.map xcv)) := k
      unfold xushr at k
      rw [Int32.ofInt_toInt] at k
      exact k
  · cases ha
theorem xdiv {a b M : Int} (h0 : ¬ b = 0) (hs : 0 ≤ a ∨ 0 ≤ b) (ha : -M ≤ a ∧ a < M) (hb : -M ≤ b ∧ b < M) : (-M ≤ a.tdiv b ∧ a.tdiv b < M) := by
  have h1 := Int.natAbs_tdiv_le_natAbs a b
  rcases Int.lt_or_le a 0 with q | q
  · have hb0 : 0 < b := by omega
    have h2 : a.tdiv b ≤ 0 := by
      have h3 := Int.tdiv_nonneg (a := -a) (b := b) (by omega) (by omega)
      rw [Int.neg_tdiv] at h3
      omega
    omega
  · omega
theorem xmod {a b M : Int} (h0 : ¬ b = 0) (ha : -M ≤ a ∧ a < M) : (-M ≤ a.tmod b ∧ a.tmod b < M) := by
  have h1 : (a.tmod b).natAbs ≤ a.natAbs := by
    rw [Int.natAbs_tmod]
    exact Nat.mod_le _ _
  rcases Int.lt_or_le a 0 with q | q
  · have h2 : a.tmod b ≤ 0 := by
      have h3 := Int.tmod_nonneg (a := -a) b (by omega)
      rw [Int.neg_tmod] at h3
      omega
    omega
  · omega
theorem xne0 {b : Int} (hb : xok (.inl b)) (h : ¬ b = 0) : ¬ Int32.ofInt b = 0 := fun q => h ((xeq hb xok0).mp q)
theorem xne0L {b : Int} (hb : xok (.inr (.inl b))) (h : ¬ b = 0) : ¬ Int64.ofInt b = 0 := fun q => h (by
  have h1 := x64 hb
  rw [q] at h1
  exact h1.symm)
theorem xdiv32 {a b : Int} (ha : xok (.inl a)) (hb : xok (.inl b)) : Int32.ofInt (a.tdiv b) = Int32.ofInt a / Int32.ofInt b :=
  Int32.ofInt_tdiv ha.1 (Int.le_of_lt_add_one ha.2) hb.1 (Int.le_of_lt_add_one hb.2)
theorem xdiv64 {a b : Int} (ha : xok (.inr (.inl a))) (hb : xok (.inr (.inl b))) : Int64.ofInt (a.tdiv b) = Int64.ofInt a / Int64.ofInt b :=
  Int64.ofInt_tdiv ha.1 (Int.le_of_lt_add_one ha.2) hb.1 (Int.le_of_lt_add_one hb.2)
theorem xmod32 {a b : Int} (ha : xok (.inl a)) (hb : xok (.inl b)) : Int32.ofInt (a.tmod b) = Int32.ofInt a - Int32.ofInt a / Int32.ofInt b * Int32.ofInt b := by
  rw [← xdiv32 ha hb, ← Int32.ofInt_mul, ← Int32.ofInt_sub, Int.tmod_def, Int.mul_comm]
theorem xmod64 {a b : Int} (ha : xok (.inr (.inl a))) (hb : xok (.inr (.inl b))) : Int64.ofInt (a.tmod b) = Int64.ofInt a - Int64.ofInt a / Int64.ofInt b * Int64.ofInt b := by
  rw [← xdiv64 ha hb, ← Int64.ofInt_mul, ← Int64.ofInt_sub, Int.tmod_def, Int.mul_comm]
theorem ok_idiv {s0 : State} {A0 : Array Value} {D : va_G} {ta : Nat → ClassId} {l : Launch} {M pc np : Nat} (d : decode (xbytes M) pc = .ok (.idiv, 1)) (hp : pc + 1 = np) : ActOK s0 A0 D ta l M pc (xaDiv np) := by
  refine ActOK.stk fun ls st h g pc' ls' st' h' ha hg => ?_
  subst hp
  unfold xaDiv at ha
  split at ha
  · next b a r =>
    cases ha
    refine ⟨rfl, rfl, fun o oL oc => ?_, fun p e R s m args below meth c G F hf hl Q H locs cells slots lsM C k => ?_⟩
    · have ob := (xokS_c o).1
      have oa := (xokS_c (xokS_c o).2).1
      exact xokS_k (show _ ∧ _ from xdiv hg.1 hg.2 oa ob) (xokS_c (xokS_c o).2).2
    · have ob := (xokS_c C.2.2.2.2).1
      have oa := (xokS_c (xokS_c C.2.2.2.2).2).1
      refine lv_idiv F.1 F.2.1 d (xne0 ob hg.1) ?_
      rw [← xdiv32 oa ob]
      exact k
  · cases ha
theorem ok_irem {s0 : State} {A0 : Array Value} {D : va_G} {ta : Nat → ClassId} {l : Launch} {M pc np : Nat} (d : decode (xbytes M) pc = .ok (.irem, 1)) (hp : pc + 1 = np) : ActOK s0 A0 D ta l M pc (xaRem np) := by
  refine ActOK.stk fun ls st h g pc' ls' st' h' ha hg => ?_
  subst hp
  unfold xaRem at ha
  split at ha
  · next b a r =>
    cases ha
    refine ⟨rfl, rfl, fun o oL oc => ?_, fun p e R s m args below meth c G F hf hl Q H locs cells slots lsM C k => ?_⟩
    · have ob := (xokS_c o).1
      have oa := (xokS_c (xokS_c o).2).1
      exact xokS_k (show _ ∧ _ from xmod hg.1 oa) (xokS_c (xokS_c o).2).2
    · have ob := (xokS_c C.2.2.2.2).1
      have oa := (xokS_c (xokS_c C.2.2.2.2).2).1
      refine lv_irem F.1 F.2.1 d (xne0 ob hg.1) ?_
      rw [← xmod32 oa ob]
      exact k
  · cases ha
theorem ok_ldiv {s0 : State} {A0 : Array Value} {D : va_G} {ta : Nat → ClassId} {l : Launch} {M pc np : Nat} (d : decode (xbytes M) pc = .ok (.ldiv, 1)) (hp : pc + 1 = np) : ActOK s0 A0 D ta l M pc (xaLDiv np) := by
  refine ActOK.stk fun ls st h g pc' ls' st' h' ha hg => ?_
  subst hp
  unfold xaLDiv at ha
  split at ha
  · next b a r =>
    cases ha
    refine ⟨rfl, rfl, fun o oL oc => ?_, fun p e R s m args below meth c G F hf hl Q H locs cells slots lsM C k => ?_⟩
    · have ob := (xokS_c o).1
      have oa := (xokS_c (xokS_c o).2).1
      exact xokS_k (show _ ∧ _ from xdiv hg.1 hg.2 oa ob) (xokS_c (xokS_c o).2).2
    · have ob := (xokS_c C.2.2.2.2).1
      have oa := (xokS_c (xokS_c C.2.2.2.2).2).1
      refine lv_ldiv F.1 F.2.1 d (xne0L ob hg.1) ?_
      rw [← xdiv64 oa ob]
      exact k
  · cases ha
theorem ok_lrem {s0 : State} {A0 : Array Value} {D : va_G} {ta : Nat → ClassId} {l : Launch} {M pc np : Nat} (d : decode (xbytes M) pc = .ok (.lrem, 1)) (hp : pc + 1 = np) : ActOK s0 A0 D ta l M pc (xaLRem np) := by
  refine ActOK.stk fun ls st h g pc' ls' st' h' ha hg => ?_
  subst hp
  unfold xaLRem at ha
  split at ha
  · next b a r =>
    cases ha
    refine ⟨rfl, rfl, fun o oL oc => ?_, fun p e R s m args below meth c G F hf hl Q H locs cells slots lsM C k => ?_⟩
    · have ob := (xokS_c o).1
      have oa := (xokS_c (xokS_c o).2).1
      exact xokS_k (show _ ∧ _ from xmod hg.1 oa) (xokS_c (xokS_c o).2).2
    · have ob := (xokS_c C.2.2.2.2).1
      have oa := (xokS_c (xokS_c C.2.2.2.2).2).1
      refine lv_lrem F.1 F.2.1 d (xne0L ob hg.1) ?_
      rw [← xmod64 oa ob]
      exact k
  · cases ha
theorem ok_ineg {s0 : State} {A0 : Array Value} {D : va_G} {ta : Nat → ClassId} {l : Launch} {M pc np : Nat} (d : decode (xbytes M) pc = .ok (.ineg, 1)) (hp : pc + 1 = np) : ActOK s0 A0 D ta l M pc (xaNeg np) := by
  refine ActOK.stk fun ls st h g pc' ls' st' h' ha hg => ?_
  subst hp
  unfold xaNeg at ha
  split at ha
  · next a r =>
    cases ha
    refine ⟨rfl, rfl, fun o oL oc => ?_, fun p e R s m args below meth c G F hf hl Q H locs cells slots lsM C k => ?_⟩
    · have oa := (xokS_c o).1
      exact xokS_k (show _ ∧ _ from ⟨by have := oa.2; omega, by omega⟩) (xokS_c o).2
    · refine lv_ineg F.1 F.2.1 d ?_
      rw [← Int32.ofInt_neg]
      exact k
  · cases ha
theorem ok_lneg {s0 : State} {A0 : Array Value} {D : va_G} {ta : Nat → ClassId} {l : Launch} {M pc np : Nat} (d : decode (xbytes M) pc = .ok (.lneg, 1)) (hp : pc + 1 = np) : ActOK s0 A0 D ta l M pc (xaLNeg np) := by
  refine ActOK.stk fun ls st h g pc' ls' st' h' ha hg => ?_
  subst hp
  unfold xaLNeg at ha
  split at ha
  · next a r =>
    cases ha
    refine ⟨rfl, rfl, fun o oL oc => ?_, fun p e R s m args below meth c G F hf hl Q H locs cells slots lsM C k => ?_⟩
    · have oa := (xokS_c o).1
      exact xokS_k (show _ ∧ _ from ⟨by have := oa.2; omega, by omega⟩) (xokS_c o).2
    · refine lv_lneg F.1 F.2.1 d ?_
      rw [← Int64.ofInt_neg]
      exact k
  · cases ha
theorem xs_amt : ∀ n : Nat, n < 32 → ((Int32.ofInt (n : Int) &&& 31).toBitVec.smod 32).toNat = n := by decide +kernel
theorem xs_amt' {b : Int} (h : 0 ≤ b ∧ b < 32) : ((Int32.ofInt b &&& 31).toBitVec.smod 32).toNat = b.toNat := by
  obtain ⟨n, rfl⟩ := Int.eq_ofNat_of_zero_le h.1
  exact xs_amt n (by omega)
theorem x_tn (a : Int) : ((Int32.ofInt a).toBitVec.toNat : Int) = a % 4294967296 := by
  rw [Int32.toBitVec_ofInt]
  simp [BitVec.toNat_ofInt]
  omega
theorem x_shl {a b : Int} (hb : 0 ≤ b ∧ b < 32) : Int32.ofInt a <<< (Int32.ofInt b &&& 31) = Int32.ofInt (a * 2 ^ b.toNat) := by
  apply Int32.toBitVec_inj.mp
  apply BitVec.eq_of_toNat_eq
  rw [pk_shl _ _ b.toNat (xs_amt' hb)]
  apply Int.ofNat_inj.mp
  rw [x_tn]
  show ((((Int32.ofInt a).toBitVec.toNat * 2 ^ b.toNat % 2 ^ 32 : Nat) : Int)) = _
  rw [Int.natCast_emod, Int.natCast_mul, x_tn, Int.natCast_pow, Int.natCast_pow]
  show (a % 4294967296 * 2 ^ b.toNat) % 4294967296 = _
  rw [Int.mul_emod, Int.emod_emod_of_dvd _ (Int.dvd_refl _), ← Int.mul_emod]
theorem x_shr {a b : Int} (ha : xok (.inl a)) (hb : 0 ≤ b ∧ b < 32) : Int32.ofInt a >>> (Int32.ofInt b &&& 31) = Int32.ofInt (a / 2 ^ b.toNat) := by
  apply Int32.toInt_inj.mp
  rw [pk_shr _ _ b.toNat (xs_amt' hb), x32 ha, Int.shiftRight_eq_div_pow]
  refine (x32 (z := a / 2 ^ b.toNat) ⟨?_, ?_⟩).symm
  · have h1 : (1 : Int) ≤ 2 ^ b.toNat := Int.pow_pos (by decide)
    have h2 := Int.ediv_mul_le a (b := 2 ^ b.toNat) (by omega)
    refine Int.le_ediv_of_mul_le (by omega) ?_
    have h3 : -2147483648 * (2 : Int) ^ b.toNat ≤ -2147483648 * 1 := by omega
    have := ha.1
    omega
  · refine Int.ediv_lt_of_lt_mul (Int.pow_pos (by decide)) ?_
    have h1 : (1 : Int) ≤ 2 ^ b.toNat := Int.pow_pos (by decide)
    have h3 : (2147483648 : Int) * 1 ≤ 2147483648 * 2 ^ b.toNat := by omega
    have := ha.2
    omega
theorem x_shr_ok {a b : Int} (ha : xok (.inl a)) : xok (.inl (a / 2 ^ b.toNat)) := by
  refine ⟨?_, ?_⟩
  · have h1 : (1 : Int) ≤ 2 ^ b.toNat := Int.pow_pos (by decide)
    refine Int.le_ediv_of_mul_le (by omega) ?_
    have h3 : -2147483648 * (2 : Int) ^ b.toNat ≤ -2147483648 * 1 := by omega
    have := ha.1
    omega
  · refine Int.ediv_lt_of_lt_mul (Int.pow_pos (by decide)) ?_
    have h1 : (1 : Int) ≤ 2 ^ b.toNat := Int.pow_pos (by decide)
    have h3 : (2147483648 : Int) * 1 ≤ 2147483648 * 2 ^ b.toNat := by omega
    have := ha.2
    omega
theorem ok_ishl {s0 : State} {A0 : Array Value} {D : va_G} {ta : Nat → ClassId} {l : Launch} {M pc np : Nat} (d : decode (xbytes M) pc = .ok (.ishl, 1)) (hp : pc + 1 = np) : ActOK s0 A0 D ta l M pc (xaShl np) := by
  refine ActOK.stk fun ls st h g pc' ls' st' h' ha hg => ?_
  subst hp
  unfold xaShl at ha
  split at ha
  · next b a r =>
    cases ha
    refine ⟨rfl, rfl, fun o oL oc => ?_, fun p e R s m args below meth c G F hf hl Q H locs cells slots lsM C k => ?_⟩
    · exact xokS_k (show _ ∧ _ from hg.2.2) (xokS_c (xokS_c o).2).2
    · refine lv_ishl F.1 F.2.1 d ?_
      rw [x_shl ⟨hg.1, hg.2.1⟩]
      exact k
  · cases ha
theorem ok_ishr {s0 : State} {A0 : Array Value} {D : va_G} {ta : Nat → ClassId} {l : Launch} {M pc np : Nat} (d : decode (xbytes M) pc = .ok (.ishr, 1)) (hp : pc + 1 = np) : ActOK s0 A0 D ta l M pc (xaShr np) := by
  refine ActOK.stk fun ls st h g pc' ls' st' h' ha hg => ?_
  subst hp
  unfold xaShr at ha
  split at ha
  · next b a r =>
    cases ha
    refine ⟨rfl, rfl, fun o oL oc => ?_, fun p e R s m args below meth c G F hf hl Q H locs cells slots lsM C k => ?_⟩
    · have oa := (xokS_c (xokS_c o).2).1
      exact xokS_k (x_shr_ok oa) (xokS_c (xokS_c o).2).2
    · have oa := (xokS_c (xokS_c C.2.2.2.2).2).1
      refine lv_ishr F.1 F.2.1 d ?_
      rw [x_shr oa hg]
      exact k
  · cases ha
theorem ok_i2l {s0 : State} {A0 : Array Value} {D : va_G} {ta : Nat → ClassId} {l : Launch} {M pc np : Nat} (d : decode (xbytes M) pc = .ok (.i2l, 1)) (hp : pc + 1 = np) : ActOK s0 A0 D ta l M pc (x01 (xaI2L np)) := by
  refine ActOK.stk0 fun ls st h pc' ls' st' h' ha => ?_
  subst hp
  unfold xaI2L at ha
  split at ha
  · next a r =>
    cases ha
    refine ⟨rfl, rfl, fun o oL oc => ?_, fun p e R s m args below meth c G F hf hl Q H locs cells slots lsM C k => ?_⟩
    · have oa := (xokS_c o).1
      exact xokS_k (show _ ∧ _ from ⟨by have := oa.1; omega, by have := oa.2; omega⟩) (xokS_c o).2
    · have oa := (xokS_c C.2.2.2.2).1
      refine lv_i2l F.1 F.2.1 d ?_ k
      exact Int32.toInt64_ofInt oa.1 (Int.le_of_lt_add_one oa.2)
  · cases ha
theorem ok_l2i {s0 : State} {A0 : Array Value} {D : va_G} {ta : Nat → ClassId} {l : Launch} {M pc np : Nat} (d : decode (xbytes M) pc = .ok (.l2i, 1)) (hp : pc + 1 = np) : ActOK s0 A0 D ta l M pc (xaL2I np) := by
  refine ActOK.stk fun ls st h g pc' ls' st' h' ha hg => ?_
  subst hp
  unfold xaL2I at ha
  split at ha
  · next a r =>
    cases ha
    refine ⟨rfl, rfl, fun o oL oc => ?_, fun p e R s m args below meth c G F hf hl Q H locs cells slots lsM C k => ?_⟩
    · exact xokS_k hg (xokS_c o).2
    · exact lv_l2i F.1 F.2.1 d Int64.toInt32_ofInt k
  · cases ha
theorem ok_i2b {s0 : State} {A0 : Array Value} {D : va_G} {ta : Nat → ClassId} {l : Launch} {M pc np : Nat} (d : decode (xbytes M) pc = .ok (.i2b, 1)) (hp : pc + 1 = np) : ActOK s0 A0 D ta l M pc (x01 (xaI2B np)) := by
  refine ActOK.stk0 fun ls st h pc' ls' st' h' ha => ?_
  subst hp
  unfold xaI2B at ha
  split at ha
  · next a r =>
    cases ha
    refine ⟨rfl, rfl, fun o oL oc => ?_, fun p e R s m args below meth c G F hf hl Q H locs cells slots lsM C k => ?_⟩
    · exact xokS_k (xw8_ok _) (xokS_c o).2
    · refine lv_i2b F.1 F.2.1 d ?_ k
      rw [Int32.toInt8_ofInt]
      exact (Int32.toInt_inj.mp (by rw [Int8.toInt_toInt32]; exact (x32 (xw8_ok _)).symm))
  · cases ha
theorem ok_i2c {s0 : State} {A0 : Array Value} {D : va_G} {ta : Nat → ClassId} {l : Launch} {M pc np : Nat} (d : decode (xbytes M) pc = .ok (.i2c, 1)) (hp : pc + 1 = np) : ActOK s0 A0 D ta l M pc (xaI2C np) := by
  refine ActOK.stk fun ls st h g pc' ls' st' h' ha hg => ?_
  subst hp
  unfold xaI2C at ha
  split at ha
  · next a r =>
    cases ha
    refine ⟨rfl, rfl, fun o oL oc => ?_, fun p e R s m args below meth c G F hf hl Q H locs cells slots lsM C k => ?_⟩
    · exact xokS_k (xokS_c o).1 (xokS_c o).2
    · have oa := (xokS_c C.2.2.2.2).1
      refine lv_i2c F.1 F.2.1 d ?_ k
      exact lg_i2c_word (by rw [x32 oa]; exact hg.1) (by rw [x32 oa]; exact hg.2)
  · cases ha
theorem ok_lcmp {s0 : State} {A0 : Array Value} {D : va_G} {ta : Nat → ClassId} {l : Launch} {M pc np : Nat} (d : decode (xbytes M) pc = .ok (.lcmp, 1)) (hp : pc + 1 = np) : ActOK s0 A0 D ta l M pc (x01 (xaLCmp np)) := by
  refine ActOK.stk0 fun ls st h pc' ls' st' h' ha => ?_
  subst hp
  unfold xaLCmp at ha
  split at ha
  · next b a r =>
    cases ha
    refine ⟨rfl, rfl, fun o oL oc => ?_, fun p e R s m args below meth c G F hf hl Q H locs cells slots lsM C k => ?_⟩
    · exact xokS_k (xcmp_ok _ _) (xokS_c (xokS_c o).2).2
    · have ob := (xokS_c C.2.2.2.2).1
      have oa := (xokS_c (xokS_c C.2.2.2.2).2).1
      refine W.lcmp F.1 F.2.1 d ?_
      rw [x_cmp oa ob]
      exact k
  · cases ha
