/-! THE MINI-MACHINE IS SOUND, 4: locals, branches, constants of the launch -/
set_option maxRecDepth 100000
set_option maxHeartbeats 4000000
theorem x01_of {act : XA0} {ls : XL} {st : XS} {h : XH} {g : Prop} {r : Nat × XL × XS × XH} (ha : x01 act ls st h = some (g, r)) : act ls st h = some r := by
  unfold x01 at ha
  split at ha
  · next r' hr =>
    cases ha
    exact hr
  · cases ha
theorem xfilt1 {ls ls' : XL} {j : Nat} {v : XV} (hs : xset ls j v = some ls') : ∀ q ∈ xll 0 ls', q ∈ (j, xcv v) :: (xll 0 ls).filter (fun q => !(q.1 == j) && !(q.1 + 1 == j && q.2.category == 2)) := by
  intro q hq
  rcases (xset_spec ls 0 j v ls' hs).2.2.2 q hq with e | ⟨e1, e2, e3⟩
  · rw [e, Nat.zero_add]
    exact List.mem_cons_self
  · rw [Nat.zero_add] at e2 e3
    refine List.mem_cons_of_mem _ (List.mem_filter.mpr ⟨e1, ?_⟩)
    have a1 : (q.1 == j) = false := by simpa using e2
    have a2 : (q.1 + 1 == j && q.2.category == 2) = false := by
      rw [Bool.and_eq_false_iff]
      by_cases z : q.1 + 1 = j
      · right
        simpa using fun z2 => e3 ⟨z, z2⟩
      · left
        simpa using z
    rw [a1, a2]
    rfl
theorem xfilt2 {ls ls' : XL} {j : Nat} {v : Int} (hs : xset2 ls j v = some ls') : ∀ q ∈ xll 0 ls', q ∈ (j, xcv (.inr (.inl v))) :: (xll 0 ls).filter (fun q => !(q.1 == j) && (!(q.1 == j + 1) && !(q.1 + 1 == j && q.2.category == 2))) := by
  intro q hq
  rcases (xset2_spec ls 0 j v ls' hs).2.2.2 q hq with e | ⟨e1, e2, e4, e3⟩
  · rw [e, Nat.zero_add]
    exact List.mem_cons_self
  · rw [Nat.zero_add] at e2 e3 e4
    refine List.mem_cons_of_mem _ (List.mem_filter.mpr ⟨e1, ?_⟩)
    have a1 : (q.1 == j) = false := by simpa using e2
    have a3 : (q.1 == j + 1) = false := by simpa using e4
    have a2 : (q.1 + 1 == j && q.2.category == 2) = false := by
      rw [Bool.and_eq_false_iff]
      by_cases z : q.1 + 1 = j
      · right
        simpa using fun z2 => e3 ⟨z, z2⟩
      · left
        simpa using z
    rw [a1, a2, a3]
    rfl
theorem xst_cf {s0 : State} {D : va_G} {ta : Nat → ClassId} {M : Nat} {h : XH} {ls ls' : XL} {st st' : XS} {H : Heap} {locs : List Loc} {lsM lsM' : Array Slot} {j : Nat} {v : XV} (C : XCf s0 D ta M h ls st H locs lsM) (hs : xset ls j v = some ls') (hv : xok v) (hst : xokS st')
    (h' : lv_has lsM' (xloc M) ((j, xcv v) :: (xll 0 ls).filter (fun q => !(q.1 == j) && !(q.1 + 1 == j && q.2.category == 2)))) : XCf s0 D ta M h ls' st' H locs lsM' := by
  obtain ⟨b1, b2, b3, -⟩ := xset_spec ls 0 j v ls' hs
  refine ⟨C.1, C.2.1, ⟨⟨h'.1, h'.2.1, fun q hq => h'.2.2 q (xfilt1 hs q hq)⟩, by rw [b2]; exact C.2.2.1.2⟩, fun w hw => ?_, hst⟩
  rcases b3 w hw with e | e
  · rw [e]; exact hv
  · exact C.2.2.2.1 w e
theorem xst_cf2 {s0 : State} {D : va_G} {ta : Nat → ClassId} {M : Nat} {h : XH} {ls ls' : XL} {st st' : XS} {H : Heap} {locs : List Loc} {lsM lsM' : Array Slot} {j : Nat} {v : Int} (C : XCf s0 D ta M h ls st H locs lsM) (hs : xset2 ls j v = some ls') (hv : xok (.inr (.inl v))) (hst : xokS st')
    (h' : lv_has lsM' (xloc M) ((j, xcv (.inr (.inl v))) :: (xll 0 ls).filter (fun q => !(q.1 == j) && (!(q.1 == j + 1) && !(q.1 + 1 == j && q.2.category == 2))))) : XCf s0 D ta M h ls' st' H locs lsM' := by
  obtain ⟨b1, b2, b3, -⟩ := xset2_spec ls 0 j v ls' hs
  refine ⟨C.1, C.2.1, ⟨⟨h'.1, h'.2.1, fun q hq => h'.2.2 q (xfilt2 hs q hq)⟩, by rw [b2]; exact C.2.2.1.2⟩, fun w hw => ?_, hst⟩
  rcases b3 w hw with e | e
  · rw [e]; exact hv
  · exact C.2.2.2.1 w e
theorem ok_istore_n {s0 : State} {A0 : Array Value} {D : va_G} {ta : Nat → ClassId} {l : Launch} {M pc np : Nat} {i : Fin 4} {j : Nat} (d : decode (xbytes M) pc = .ok (.istore_n i, 1)) (hp : pc + 1 = np) (hj : (i : Nat) = j) : ActOK s0 A0 D ta l M pc (x01 (xaStI j np)) := by
  intro ls st h g pc' ls' st' h' ha hg
  replace ha := x01_of ha
  subst hp
  unfold xaStI at ha
  split at ha
  · next z r =>
    split at ha
    · next l' hs =>
      cases ha
      refine ⟨Int.le_refl _, Int.le_refl _, ?_⟩
      intro p e R s m args below meth c G F hf hl Q H locs cells slots lsM C _ _ kw
      obtain ⟨oz, ho⟩ := xokS_c C.2.2.2.2
      have hn : j < xloc M := by rw [← C.2.2.1.2]; exact (xset_spec ls 0 j _ _ hs).1
      exact lv_istore_n F.1 F.2.1 d hj C.2.2.1.1 hn rfl fun lsM' h' => kw H locs cells slots lsM' (xst_cf C hs oz ho h') rfl rfl
    · cases ha
  · cases ha
theorem ok_istore {s0 : State} {A0 : Array Value} {D : va_G} {ta : Nat → ClassId} {l : Launch} {M pc np : Nat}  {j : Nat} (d : decode (xbytes M) pc = .ok (.istore j, 2)) (hp : pc + 2 = np) : ActOK s0 A0 D ta l M pc (x01 (xaStI j np)) := by
  intro ls st h g pc' ls' st' h' ha hg
  replace ha := x01_of ha
  subst hp
  unfold xaStI at ha
  split at ha
  · next z r =>
    split at ha
    · next l' hs =>
      cases ha
      refine ⟨Int.le_refl _, Int.le_refl _, ?_⟩
      intro p e R s m args below meth c G F hf hl Q H locs cells slots lsM C _ _ kw
      obtain ⟨oz, ho⟩ := xokS_c C.2.2.2.2
      have hn : j < xloc M := by rw [← C.2.2.1.2]; exact (xset_spec ls 0 j _ _ hs).1
      exact lv_istore F.1 F.2.1 d C.2.2.1.1 hn rfl fun lsM' h' => kw H locs cells slots lsM' (xst_cf C hs oz ho h') rfl rfl
    · cases ha
  · cases ha
theorem ok_astore_n {s0 : State} {A0 : Array Value} {D : va_G} {ta : Nat → ClassId} {l : Launch} {M pc np : Nat} {i : Fin 4} {j : Nat} (d : decode (xbytes M) pc = .ok (.astore_n i, 1)) (hp : pc + 1 = np) (hj : (i : Nat) = j) : ActOK s0 A0 D ta l M pc (x01 (xaStA j np)) := by
  intro ls st h g pc' ls' st' h' ha hg
  replace ha := x01_of ha
  subst hp
  unfold xaStA at ha
  split at ha
  · next z r =>
    split at ha
    · next l' hs =>
      cases ha
      refine ⟨Int.le_refl _, Int.le_refl _, ?_⟩
      intro p e R s m args below meth c G F hf hl Q H locs cells slots lsM C _ _ kw
      obtain ⟨oz, ho⟩ := xokS_c C.2.2.2.2
      have hn : j < xloc M := by rw [← C.2.2.1.2]; exact (xset_spec ls 0 j _ _ hs).1
      show W p l e R s m args below meth c H locs cells slots Q (F0 m pc lsM (xcv (.inr (.inr z)) :: st'.map xcv))
      have kz := fun (lsM' : Array Slot) h' => kw H locs cells slots lsM' (xst_cf C hs oz ho h') rfl rfl
      rcases xrv_or z with e1 | ⟨a, e1⟩
      · rw [e1] at kz ⊢
        exact lv_astore_nN F.1 F.2.1 d hj C.2.2.1.1 hn rfl kz
      · rw [e1] at kz ⊢
        exact lv_astore_n F.1 F.2.1 d hj C.2.2.1.1 hn rfl kz
    · cases ha
  · cases ha
theorem ok_astore {s0 : State} {A0 : Array Value} {D : va_G} {ta : Nat → ClassId} {l : Launch} {M pc np : Nat}  {j : Nat} (d : decode (xbytes M) pc = .ok (.astore j, 2)) (hp : pc + 2 = np) : ActOK s0 A0 D ta l M pc (x01 (xaStA j np)) := by
  intro ls st h g pc' ls' st' h' ha hg
  replace ha := x01_of ha
  subst hp
  unfold xaStA at ha
  split at ha
  · next z r =>
    split at ha
    · next l' hs =>
      cases ha
      refine ⟨Int.le_refl _, Int.le_refl _, ?_⟩
      intro p e R s m args below meth c G F hf hl Q H locs cells slots lsM C _ _ kw
      obtain ⟨oz, ho⟩ := xokS_c C.2.2.2.2
      have hn : j < xloc M := by rw [← C.2.2.1.2]; exact (xset_spec ls 0 j _ _ hs).1
      show W p l e R s m args below meth c H locs cells slots Q (F0 m pc lsM (xcv (.inr (.inr z)) :: st'.map xcv))
      have kz := fun (lsM' : Array Slot) h' => kw H locs cells slots lsM' (xst_cf C hs oz ho h') rfl rfl
      rcases xrv_or z with e1 | ⟨a, e1⟩
      · rw [e1] at kz ⊢
        exact lv_astoreN F.1 F.2.1 d C.2.2.1.1 hn rfl kz
      · rw [e1] at kz ⊢
        exact lv_astore F.1 F.2.1 d C.2.2.1.1 hn rfl kz
    · cases ha
  · cases ha
theorem ok_lstore_n {s0 : State} {A0 : Array Value} {D : va_G} {ta : Nat → ClassId} {l : Launch} {M pc np : Nat} {i : Fin 4} {j : Nat} (d : decode (xbytes M) pc = .ok (.lstore_n i, 1)) (hp : pc + 1 = np) (hj : (i : Nat) = j) : ActOK s0 A0 D ta l M pc (x01 (xaStJ j np)) := by
  intro ls st h g pc' ls' st' h' ha hg
  replace ha := x01_of ha
  subst hp
  unfold xaStJ at ha
  split at ha
  · next z r =>
    split at ha
    · next l' hs =>
      cases ha
      refine ⟨Int.le_refl _, Int.le_refl _, ?_⟩
      intro p e R s m args below meth c G F hf hl Q H locs cells slots lsM C _ _ kw
      obtain ⟨oz, ho⟩ := xokS_c C.2.2.2.2
      have hn : j + 1 < xloc M := by rw [← C.2.2.1.2]; exact (xset2_spec ls 0 j _ _ hs).1
      exact lv_lstore_n F.1 F.2.1 d hj C.2.2.1.1 hn rfl fun lsM' h' => kw H locs cells slots lsM' (xst_cf2 C hs oz ho h') rfl rfl
    · cases ha
  · cases ha
theorem ok_lstore {s0 : State} {A0 : Array Value} {D : va_G} {ta : Nat → ClassId} {l : Launch} {M pc np : Nat}  {j : Nat} (d : decode (xbytes M) pc = .ok (.lstore j, 2)) (hp : pc + 2 = np) : ActOK s0 A0 D ta l M pc (x01 (xaStJ j np)) := by
  intro ls st h g pc' ls' st' h' ha hg
  replace ha := x01_of ha
  subst hp
  unfold xaStJ at ha
  split at ha
  · next z r =>
    split at ha
    · next l' hs =>
      cases ha
      refine ⟨Int.le_refl _, Int.le_refl _, ?_⟩
      intro p e R s m args below meth c G F hf hl Q H locs cells slots lsM C _ _ kw
      obtain ⟨oz, ho⟩ := xokS_c C.2.2.2.2
      have hn : j + 1 < xloc M := by rw [← C.2.2.1.2]; exact (xset2_spec ls 0 j _ _ hs).1
      exact lv_lstore F.1 F.2.1 d C.2.2.1.1 hn rfl fun lsM' h' => kw H locs cells slots lsM' (xst_cf2 C hs oz ho h') rfl rfl
    · cases ha
  · cases ha
theorem xll_place {ls : XL} {j : Nat} {v : XV} (h : xget ls j = some v) : ∃ k : Nat, (xll 0 ls)[k]? = some (j, xcv v) := by
  have h1 := xll_get ls 0 j v h
  rw [Nat.zero_add] at h1
  exact List.getElem?_of_mem h1
theorem ok_iinc {s0 : State} {A0 : Array Value} {D : va_G} {ta : Nat → ClassId} {l : Launch} {M pc np : Nat} {j : Nat} {n : Int} (d : decode (xbytes M) pc = .ok (.iinc j n, 3)) (hp : pc + 3 = np) : ActOK s0 A0 D ta l M pc (xaInc j n np) := by
  intro ls st h g pc' ls' st' h' ha hg
  subst hp
  unfold xaInc at ha
  split at ha
  · next z hz =>
    split at ha
    · next l' hs =>
      cases ha
      refine ⟨Int.le_refl _, Int.le_refl _, ?_⟩
      intro p e R s m args below meth c G F hf hl Q H locs cells slots lsM C _ _ kw
      obtain ⟨k, hk⟩ := xll_place hz
      have hn : j < xloc M := by rw [← C.2.2.1.2]; exact (xset_spec ls 0 j _ _ hs).1
      exact lv_iinc F.1 F.2.1 d C.2.2.1.1 hk (Int32.ofInt_add z n).symm hn rfl fun lsM' h' => kw H locs cells slots lsM' (xst_cf C hs hg C.2.2.2.2 h') rfl rfl
    · cases ha
  · cases ha
theorem ok_iincW {s0 : State} {A0 : Array Value} {D : va_G} {ta : Nat → ClassId} {l : Launch} {M pc np : Nat} {j : Nat} {n : Int} (d : decode (xbytes M) pc = .ok (.iinc j n, 6)) (hp : pc + 6 = np) : ActOK s0 A0 D ta l M pc (xaInc j n np) := by
  intro ls st h g pc' ls' st' h' ha hg
  subst hp
  unfold xaInc at ha
  split at ha
  · next z hz =>
    split at ha
    · next l' hs =>
      cases ha
      refine ⟨Int.le_refl _, Int.le_refl _, ?_⟩
      intro p e R s m args below meth c G F hf hl Q H locs cells slots lsM C _ _ kw
      obtain ⟨k, hk⟩ := xll_place hz
      have hn : j < xloc M := by rw [← C.2.2.1.2]; exact (xset_spec ls 0 j _ _ hs).1
      exact lv_iincW F.1 F.2.1 d C.2.2.1.1 hk (Int32.ofInt_add z n).symm hn rfl fun lsM' h' => kw H locs cells slots lsM' (xst_cf C hs hg C.2.2.2.2 h') rfl rfl
    · cases ha
  · cases ha
theorem xst_cf0 {s0 : State} {D : va_G} {ta : Nat → ClassId} {M : Nat} {h : XH} {ls : XL} {st st' : XS} {H : Heap} {locs : List Loc} {lsM : Array Slot} (C : XCf s0 D ta M h ls st H locs lsM) (hst : xokS st') : XCf s0 D ta M h ls st' H locs lsM := ⟨C.1, C.2.1, C.2.2.1, C.2.2.2.1, hst⟩
theorem xrel_S {s0 s : State} {D : va_G} {ta : Nat → ClassId} {h : XH} {H : Heap} {C n d : String} {v : Value} (hR : XRel s0 D ta h H) (hW : s0.WarmedH s.vm) (hZ : va_Z C n d v (fun q => s0.heap.size ≤ q) s0 s0.heap) : va_Z C n d v (fun q => s0.heap.size ≤ q) s H :=
  va_Z.moved hW.alike (hZ.kept fun a ha _ => hR.1 a ha)
theorem W.getsH {p : Program} {l : Launch} {e : Env} {R : Room} {s : State} {m : MethodId} {args : Array Value} {below : List Frame} {meth : Method} {c : Code} {H : Heap} {locs : List Loc} {cells slots : Nat} {Q : State → Prop} {cc : ByteArray} {pc : Nat} {ls : Array Slot} {rest : List Value} {A : Nat → Prop} (hexec : p.tables.exec = Jvm.exec) (hb : c.code = cc) {C n d own ref : String} {v : Value} {index : Nat} (hZ : va_Z C n d v A s H) (hown : s.vm.findClass own = some m.cls) (hlink : (Cond.fieldLink own index ref n d).before args s = true) (hsame : ∀ x, s.fieldFound? C n d = some x → s.fieldFound? ref n d = some x) (hdg : decode cc pc = .ok (.getstatic index, 3))
    (kk : W p l e R s m args below meth c H locs cells slots Q (F0 m (pc + 3) ls (v :: rest))) : W p l e R s m args below meth c H locs cells slots Q (F0 m pc ls rest) := by
  obtain ⟨cf, kf, fi, f, a, cell, h1, h2, h3, h4, h5, h6, h7, h8⟩ := hZ
  exact W.gets hexec hb hown hlink (hsame _ h1) h2 h3 h4 h5 (fun e => by rw [e] at h6; cases h6) h7 rfl hdg kk
theorem W.ldcSw {p : Program} {l : Launch} {e : Env} {R : Room} {s : State} {m : MethodId} {args : Array Value} {below : List Frame} {meth : Method} {c : Code} {H : Heap} {locs : List Loc} {cells slots : Nat} {Q : State → Prop} {cc : ByteArray} {pc : Nat} {ls : Array Slot} {rest : List Value} (hexec : p.tables.exec = Jvm.exec) (hb : c.code = cc) {own tx : String} {index q : Nat} (hown : s.vm.findClass own = some m.cls) (hZ : vk_R own index tx q s) (hdg : decode cc pc = .ok (.ldc index, 2))
    (k : W p l e R s m args below meth c H locs cells slots Q (F0 m (pc + 2) ls (.ref q :: rest))) : W p l e R s m args below meth c H locs cells slots Q (F0 m pc ls rest) := va_ldcS hexec hb hown hZ hdg k
theorem ok_ldcS {s0 : State} {A0 : Array Value} {D : va_G} {ta : Nat → ClassId} {l : Launch} {M pc np : Nat} {index i : Nat} {tx : String} (d : decode (xbytes M) pc = .ok (.ldc index, 2)) (hp : pc + 2 = np) (hi : xcsT[i]? = some ((xname M).cls, index, tx)) : ActOK s0 A0 D ta l M pc (x01 (xaCst i np)) := by
  intro ls st h g pc' ls' st' h' ha hg
  replace ha := x01_of ha
  subst hp
  unfold xaCst at ha
  cases ha
  refine ⟨Int.le_refl _, Int.le_refl _, ?_⟩
  intro p e R s m args below meth c G F hf hl Q H locs cells slots lsM C _ _ kw
  obtain ⟨a, e1, e2⟩ := C.1.2.2.2.2.2.1 i index _ tx hi
  have kz := kw H locs cells slots lsM (xst_cf0 C (xokS_k (C.1.2.2.2.2.1 i) C.2.2.2.2)) rfl rfl
  have kz : W p l e R s m args below meth c H locs cells slots Q (F0 m (pc + 2) lsM (xrv (xcs h i) :: st.map xcv)) := kz
  rw [xrv_pos e1] at kz
  exact va_ldcS F.1 F.2.1 F.2.2.2.2.2.1 (vk_R.warm F.2.2.2.2.2.2.2.2.1 e2) d kz
theorem ok_getsUS {s0 : State} {A0 : Array Value} {D : va_G} {ta : Nat → ClassId} {l : Launch} {M pc np : Nat} {index : Nat} (d : decode (xbytes M) pc = .ok (.getstatic index, 3)) (hp : pc + 3 = np) (q : Cond.fieldLink (xname M).cls index "java/lang/Throwable" "UNASSIGNED_STACK" "[Ljava/lang/StackTraceElement;" ∈ lw_all) : ActOK s0 A0 D ta l M pc (x01 (xaCst 50 np)) := by
  intro ls st h g pc' ls' st' h' ha hg
  replace ha := x01_of ha
  subst hp
  unfold xaCst at ha
  cases ha
  refine ⟨Int.le_refl _, Int.le_refl _, ?_⟩
  intro p e R s m args below meth c G F hf hl Q H locs cells slots lsM C _ _ kw
  exact W.getsH F.1 F.2.1 (xrel_S C.1 F.2.2.2.2.2.2.2.2.1 C.1.2.2.2.2.2.2.2.1) F.2.2.2.2.2.1 (F.2.2.2.2.2.2.2.1 _ q) (fun _ h => h) d (kw H locs cells slots lsM (xst_cf0 C (xokS_k (C.1.2.2.2.2.1 50) C.2.2.2.2)) rfl rfl)
theorem ok_getsSS {s0 : State} {A0 : Array Value} {D : va_G} {ta : Nat → ClassId} {l : Launch} {M pc np : Nat} {index : Nat} (d : decode (xbytes M) pc = .ok (.getstatic index, 3)) (hp : pc + 3 = np) (q : Cond.fieldLink (xname M).cls index "java/lang/Throwable" "SUPPRESSED_SENTINEL" "Ljava/util/List;" ∈ lw_all) : ActOK s0 A0 D ta l M pc (x01 (xaCst 51 np)) := by
  intro ls st h g pc' ls' st' h' ha hg
  replace ha := x01_of ha
  subst hp
  unfold xaCst at ha
  cases ha
  refine ⟨Int.le_refl _, Int.le_refl _, ?_⟩
  intro p e R s m args below meth c G F hf hl Q H locs cells slots lsM C _ _ kw
  exact W.getsH F.1 F.2.1 (xrel_S C.1 F.2.2.2.2.2.2.2.2.1 C.1.2.2.2.2.2.2.2.2.1) F.2.2.2.2.2.1 (F.2.2.2.2.2.2.2.1 _ q) (fun _ h => h) d (kw H locs cells slots lsM (xst_cf0 C (xokS_k (C.1.2.2.2.2.1 51) C.2.2.2.2)) rfl rfl)
theorem ok_getsSF {s0 : State} {A0 : Array Value} {D : va_G} {ta : Nat → ClassId} {l : Launch} {M pc np : Nat} {index : Nat} (d : decode (xbytes M) pc = .ok (.getstatic index, 3)) (hp : pc + 3 = np) (q : Cond.fieldLink (xname M).cls index "jdk/internal/util/Preconditions" "SIOOBE_FORMATTER" "Ljava/util/function/BiFunction;" ∈ lw_all) : ActOK s0 A0 D ta l M pc (x01 (xaCst 52 np)) := by
  intro ls st h g pc' ls' st' h' ha hg
  replace ha := x01_of ha
  subst hp
  unfold xaCst at ha
  cases ha
  refine ⟨Int.le_refl _, Int.le_refl _, ?_⟩
  intro p e R s m args below meth c G F hf hl Q H locs cells slots lsM C _ _ kw
  exact W.getsH F.1 F.2.1 (xrel_S C.1 F.2.2.2.2.2.2.2.2.1 C.1.2.2.2.2.2.2.2.2.2.1) F.2.2.2.2.2.1 (F.2.2.2.2.2.2.2.1 _ q) (fun _ h => h) d (kw H locs cells slots lsM (xst_cf0 C (xokS_k (C.1.2.2.2.2.1 52) C.2.2.2.2)) rfl rfl)
theorem ok_getsCS {s0 : State} {A0 : Array Value} {D : va_G} {ta : Nat → ClassId} {l : Launch} {M pc np : Nat} {index : Nat} (d : decode (xbytes M) pc = .ok (.getstatic index, 3)) (hp : pc + 3 = np) (q : Cond.fieldLink (xname M).cls index "java/lang/String" "COMPACT_STRINGS" "Z" ∈ lw_all) : ActOK s0 A0 D ta l M pc (x01 (xaI 1 np)) := by
  intro ls st h g pc' ls' st' h' ha hg
  replace ha := x01_of ha
  subst hp
  unfold xaI at ha
  cases ha
  refine ⟨Int.le_refl _, Int.le_refl _, ?_⟩
  intro p e R s m args below meth c G F hf hl Q H locs cells slots lsM C _ _ kw
  exact W.getsH F.1 F.2.1 (xrel_S C.1 F.2.2.2.2.2.2.2.2.1 C.1.2.2.2.2.2.2.1) F.2.2.2.2.2.1 (F.2.2.2.2.2.2.2.1 _ q) (fun _ h => h) d (kw H locs cells slots lsM (xst_cf0 C (xokS_k (show _ ∧ _ from ⟨by decide, by decide⟩) C.2.2.2.2)) rfl rfl)
theorem ok_if_ne {s0 : State} {A0 : Array Value} {D : va_G} {ta : Nat → ClassId} {l : Launch} {M pc np t : Nat} {off : Int} (d : decode (xbytes M) pc = .ok (.ifCond .ne off, 3)) (hp : pc + 3 = np) (ht : (pc : Int) + off = (t : Int)) : BrOK s0 A0 D ta l M pc (xbNe t np) := by
  intro st cd t' f' st' hb
  subst hp
  unfold xbNe at hb
  split at hb
  · next a r =>
    cases hb
    refine ⟨fun v hv => List.mem_cons_of_mem _ hv, fun p e R s m args below meth c F Q H locs cells slots lsM o k1 k2 => ?_⟩
    have oa := (xokS_c o).1
    exact lv_if_ne F.1 F.2.1 d ht (fun q => k1 (fun w => q ((xeq oa xok0).mpr w))) (fun q => k2 (fun w => w ((xeq oa xok0).mp q)))
  · cases hb
theorem ok_icmp_ne {s0 : State} {A0 : Array Value} {D : va_G} {ta : Nat → ClassId} {l : Launch} {M pc np t : Nat} {off : Int} (d : decode (xbytes M) pc = .ok (.if_icmp .ne off, 3)) (hp : pc + 3 = np) (ht : (pc : Int) + off = (t : Int)) : BrOK s0 A0 D ta l M pc (xcNe t np) := by
  intro st cd t' f' st' hb
  subst hp
  unfold xcNe at hb
  split at hb
  · next b a r =>
    cases hb
    refine ⟨fun v hv => List.mem_cons_of_mem _ (List.mem_cons_of_mem _ hv), fun p e R s m args below meth c F Q H locs cells slots lsM o k1 k2 => ?_⟩
    have ob := (xokS_c o).1
    have oa := (xokS_c (xokS_c o).2).1
    exact lv_icmp_ne F.1 F.2.1 d ht (fun q => k1 (fun w => q ((xeq oa ob).mpr w))) (fun q => k2 (fun w => w ((xeq oa ob).mp q)))
  · cases hb
theorem ok_if_eq {s0 : State} {A0 : Array Value} {D : va_G} {ta : Nat → ClassId} {l : Launch} {M pc np t : Nat} {off : Int} (d : decode (xbytes M) pc = .ok (.ifCond .eq off, 3)) (hp : pc + 3 = np) (ht : (pc : Int) + off = (t : Int)) : BrOK s0 A0 D ta l M pc (xbEq t np) := by
  intro st cd t' f' st' hb
  subst hp
  unfold xbEq at hb
  split at hb
  · next a r =>
    cases hb
    refine ⟨fun v hv => List.mem_cons_of_mem _ hv, fun p e R s m args below meth c F Q H locs cells slots lsM o k1 k2 => ?_⟩
    have oa := (xokS_c o).1
    exact lv_if_eq F.1 F.2.1 d ht (fun q => k1 ((xeq oa xok0).mp q)) (fun q => k2 (fun w => q ((xeq oa xok0).mpr w)))
  · cases hb
theorem ok_if_lt {s0 : State} {A0 : Array Value} {D : va_G} {ta : Nat → ClassId} {l : Launch} {M pc np t : Nat} {off : Int} (d : decode (xbytes M) pc = .ok (.ifCond .lt off, 3)) (hp : pc + 3 = np) (ht : (pc : Int) + off = (t : Int)) : BrOK s0 A0 D ta l M pc (xbLt t np) := by
  intro st cd t' f' st' hb
  subst hp
  unfold xbLt at hb
  split at hb
  · next a r =>
    cases hb
    refine ⟨fun v hv => List.mem_cons_of_mem _ hv, fun p e R s m args below meth c F Q H locs cells slots lsM o k1 k2 => ?_⟩
    have oa := (xokS_c o).1
    exact lv_if_lt F.1 F.2.1 d ht (fun q => k1 ((xlt oa xok0).mp q)) (fun q => k2 (fun w => q ((xlt oa xok0).mpr w)))
  · cases hb
theorem ok_if_ge {s0 : State} {A0 : Array Value} {D : va_G} {ta : Nat → ClassId} {l : Launch} {M pc np t : Nat} {off : Int} (d : decode (xbytes M) pc = .ok (.ifCond .ge off, 3)) (hp : pc + 3 = np) (ht : (pc : Int) + off = (t : Int)) : BrOK s0 A0 D ta l M pc (xbGe t np) := by
  intro st cd t' f' st' hb
  subst hp
  unfold xbGe at hb
  split at hb
  · next a r =>
    cases hb
    refine ⟨fun v hv => List.mem_cons_of_mem _ hv, fun p e R s m args below meth c F Q H locs cells slots lsM o k1 k2 => ?_⟩
    have oa := (xokS_c o).1
    exact lv_if_ge F.1 F.2.1 d ht (fun q => k1 ((xle xok0 oa).mp q)) (fun q => k2 (fun w => q ((xle xok0 oa).mpr w)))
  · cases hb
theorem ok_if_gt {s0 : State} {A0 : Array Value} {D : va_G} {ta : Nat → ClassId} {l : Launch} {M pc np t : Nat} {off : Int} (d : decode (xbytes M) pc = .ok (.ifCond .gt off, 3)) (hp : pc + 3 = np) (ht : (pc : Int) + off = (t : Int)) : BrOK s0 A0 D ta l M pc (xbGt t np) := by
  intro st cd t' f' st' hb
  subst hp
  unfold xbGt at hb
  split at hb
  · next a r =>
    cases hb
    refine ⟨fun v hv => List.mem_cons_of_mem _ hv, fun p e R s m args below meth c F Q H locs cells slots lsM o k1 k2 => ?_⟩
    have oa := (xokS_c o).1
    exact lv_if_gt F.1 F.2.1 d ht (fun q => k1 ((xlt xok0 oa).mp q)) (fun q => k2 (fun w => q ((xlt xok0 oa).mpr w)))
  · cases hb
theorem ok_if_le {s0 : State} {A0 : Array Value} {D : va_G} {ta : Nat → ClassId} {l : Launch} {M pc np t : Nat} {off : Int} (d : decode (xbytes M) pc = .ok (.ifCond .le off, 3)) (hp : pc + 3 = np) (ht : (pc : Int) + off = (t : Int)) : BrOK s0 A0 D ta l M pc (xbLe t np) := by
  intro st cd t' f' st' hb
  subst hp
  unfold xbLe at hb
  split at hb
  · next a r =>
    cases hb
    refine ⟨fun v hv => List.mem_cons_of_mem _ hv, fun p e R s m args below meth c F Q H locs cells slots lsM o k1 k2 => ?_⟩
    have oa := (xokS_c o).1
    exact lv_if_le F.1 F.2.1 d ht (fun q => k1 ((xle oa xok0).mp q)) (fun q => k2 (fun w => q ((xle oa xok0).mpr w)))
  · cases hb
theorem ok_icmp_eq {s0 : State} {A0 : Array Value} {D : va_G} {ta : Nat → ClassId} {l : Launch} {M pc np t : Nat} {off : Int} (d : decode (xbytes M) pc = .ok (.if_icmp .eq off, 3)) (hp : pc + 3 = np) (ht : (pc : Int) + off = (t : Int)) : BrOK s0 A0 D ta l M pc (xcEq t np) := by
  intro st cd t' f' st' hb
  subst hp
  unfold xcEq at hb
  split at hb
  · next b a r =>
    cases hb
    refine ⟨fun v hv => List.mem_cons_of_mem _ (List.mem_cons_of_mem _ hv), fun p e R s m args below meth c F Q H locs cells slots lsM o k1 k2 => ?_⟩
    have ob := (xokS_c o).1
    have oa := (xokS_c (xokS_c o).2).1
    exact lv_icmp_eq F.1 F.2.1 d ht (fun q => k1 ((xeq oa ob).mp q)) (fun q => k2 (fun w => q ((xeq oa ob).mpr w)))
  · cases hb
theorem ok_icmp_lt {s0 : State} {A0 : Array Value} {D : va_G} {ta : Nat → ClassId} {l : Launch} {M pc np t : Nat} {off : Int} (d : decode (xbytes M) pc = .ok (.if_icmp .lt off, 3)) (hp : pc + 3 = np) (ht : (pc : Int) + off = (t : Int)) : BrOK s0 A0 D ta l M pc (xcLt t np) := by
  intro st cd t' f' st' hb
  subst hp
  unfold xcLt at hb
  split at hb
  · next b a r =>
    cases hb
    refine ⟨fun v hv => List.mem_cons_of_mem _ (List.mem_cons_of_mem _ hv), fun p e R s m args below meth c F Q H locs cells slots lsM o k1 k2 => ?_⟩
    have ob := (xokS_c o).1
    have oa := (xokS_c (xokS_c o).2).1
    exact lv_icmp_lt F.1 F.2.1 d ht (fun q => k1 ((xlt oa ob).mp q)) (fun q => k2 (fun w => q ((xlt oa ob).mpr w)))
  · cases hb
theorem ok_icmp_ge {s0 : State} {A0 : Array Value} {D : va_G} {ta : Nat → ClassId} {l : Launch} {M pc np t : Nat} {off : Int} (d : decode (xbytes M) pc = .ok (.if_icmp .ge off, 3)) (hp : pc + 3 = np) (ht : (pc : Int) + off = (t : Int)) : BrOK s0 A0 D ta l M pc (xcGe t np) := by
  intro st cd t' f' st' hb
  subst hp
  unfold xcGe at hb
  split at hb
  · next b a r =>
    cases hb
    refine ⟨fun v hv => List.mem_cons_of_mem _ (List.mem_cons_of_mem _ hv), fun p e R s m args below meth c F Q H locs cells slots lsM o k1 k2 => ?_⟩
    have ob := (xokS_c o).1
    have oa := (xokS_c (xokS_c o).2).1
    exact lv_icmp_ge F.1 F.2.1 d ht (fun q => k1 ((xle ob oa).mp q)) (fun q => k2 (fun w => q ((xle ob oa).mpr w)))
  · cases hb
theorem ok_icmp_gt {s0 : State} {A0 : Array Value} {D : va_G} {ta : Nat → ClassId} {l : Launch} {M pc np t : Nat} {off : Int} (d : decode (xbytes M) pc = .ok (.if_icmp .gt off, 3)) (hp : pc + 3 = np) (ht : (pc : Int) + off = (t : Int)) : BrOK s0 A0 D ta l M pc (xcGt t np) := by
  intro st cd t' f' st' hb
  subst hp
  unfold xcGt at hb
  split at hb
  · next b a r =>
    cases hb
    refine ⟨fun v hv => List.mem_cons_of_mem _ (List.mem_cons_of_mem _ hv), fun p e R s m args below meth c F Q H locs cells slots lsM o k1 k2 => ?_⟩
    have ob := (xokS_c o).1
    have oa := (xokS_c (xokS_c o).2).1
    exact lv_icmp_gt F.1 F.2.1 d ht (fun q => k1 ((xlt ob oa).mp q)) (fun q => k2 (fun w => q ((xlt ob oa).mpr w)))
  · cases hb
theorem ok_icmp_le {s0 : State} {A0 : Array Value} {D : va_G} {ta : Nat → ClassId} {l : Launch} {M pc np t : Nat} {off : Int} (d : decode (xbytes M) pc = .ok (.if_icmp .le off, 3)) (hp : pc + 3 = np) (ht : (pc : Int) + off = (t : Int)) : BrOK s0 A0 D ta l M pc (xcLe t np) := by
  intro st cd t' f' st' hb
  subst hp
  unfold xcLe at hb
  split at hb
  · next b a r =>
    cases hb
    refine ⟨fun v hv => List.mem_cons_of_mem _ (List.mem_cons_of_mem _ hv), fun p e R s m args below meth c F Q H locs cells slots lsM o k1 k2 => ?_⟩
    have ob := (xokS_c o).1
    have oa := (xokS_c (xokS_c o).2).1
    exact lv_icmp_le F.1 F.2.1 d ht (fun q => k1 ((xle oa ob).mp q)) (fun q => k2 (fun w => q ((xle oa ob).mpr w)))
  · cases hb
theorem xrv_0 {z : Int} (h : 0 ≤ z) : (xrv z = .null ∧ z = 0) ∨ ∃ a : Nat, xrv z = .ref a ∧ z = (a : Int) + 1 := by
  by_cases h0 : z = 0
  · subst h0
    exact Or.inl ⟨rfl, rfl⟩
  · refine Or.inr ⟨(z - 1).toNat, ?_, by omega⟩
    exact xrv_pos (by omega)
theorem xrv_rf {z : Int} (h : 0 ≤ z) : ∃ r : Option Nat, xrv z = va_rf r ∧ z = (match r with | none => 0 | some a => (a : Int) + 1) := by
  rcases xrv_0 h with ⟨e1, e2⟩ | ⟨a, e1, e2⟩
  · exact ⟨none, e1, e2⟩
  · exact ⟨some a, e1, e2⟩
theorem ok_ifnull {s0 : State} {A0 : Array Value} {D : va_G} {ta : Nat → ClassId} {l : Launch} {M pc np t : Nat} {off : Int} (d : decode (xbytes M) pc = .ok (.ifnull off, 3)) (hp : pc + 3 = np) (ht : (pc : Int) + off = (t : Int)) : BrOK s0 A0 D ta l M pc (xbNull t np) := by
  intro st cd t' f' st' hb
  subst hp
  unfold xbNull at hb
  split at hb
  · next a r =>
    cases hb
    refine ⟨fun v hv => List.mem_cons_of_mem _ hv, fun p e R s m args below meth c F Q H locs cells slots lsM o k1 k2 => ?_⟩
    show W p l e R s m args below meth c H locs cells slots Q (F0 m pc lsM (xrv a :: st'.map xcv))
    rcases xrv_0 (xokS_c o).1 with ⟨e1, e2⟩ | ⟨b, e1, e2⟩
    · rw [e1]
      exact lv_ifnullN F.1 F.2.1 d ht (k1 e2)
    · rw [e1]
      exact lv_ifnull F.1 F.2.1 d (k2 (by omega))
  · cases hb
theorem ok_ifnonnull {s0 : State} {A0 : Array Value} {D : va_G} {ta : Nat → ClassId} {l : Launch} {M pc np t : Nat} {off : Int} (d : decode (xbytes M) pc = .ok (.ifnonnull off, 3)) (hp : pc + 3 = np) (ht : (pc : Int) + off = (t : Int)) : BrOK s0 A0 D ta l M pc (xbNonN t np) := by
  intro st cd t' f' st' hb
  subst hp
  unfold xbNonN at hb
  split at hb
  · next a r =>
    cases hb
    refine ⟨fun v hv => List.mem_cons_of_mem _ hv, fun p e R s m args below meth c F Q H locs cells slots lsM o k1 k2 => ?_⟩
    show W p l e R s m args below meth c H locs cells slots Q (F0 m pc lsM (xrv a :: st'.map xcv))
    rcases xrv_0 (xokS_c o).1 with ⟨e1, e2⟩ | ⟨b, e1, e2⟩
    · rw [e1]
      exact lv_ifnonnullN F.1 F.2.1 d (k2 (fun q => q e2))
    · rw [e1]
      exact lv_ifnonnull F.1 F.2.1 d ht (k1 (by omega))
  · cases hb
theorem ok_acmp_eq {s0 : State} {A0 : Array Value} {D : va_G} {ta : Nat → ClassId} {l : Launch} {M pc np t : Nat} {off : Int} (d : decode (xbytes M) pc = .ok (.if_acmp .eq off, 3)) (hp : pc + 3 = np) (ht : (pc : Int) + off = (t : Int)) : BrOK s0 A0 D ta l M pc (xaEq t np) := by
  intro st cd t' f' st' hb
  subst hp
  unfold xaEq at hb
  split at hb
  · next b a r =>
    cases hb
    refine ⟨fun v hv => List.mem_cons_of_mem _ (List.mem_cons_of_mem _ hv), fun p e R s m args below meth c F Q H locs cells slots lsM o k1 k2 => ?_⟩
    show W p l e R s m args below meth c H locs cells slots Q (F0 m pc lsM (xrv b :: xrv a :: st'.map xcv))
    obtain ⟨x, x1, x2⟩ := xrv_rf (xokS_c o).1
    obtain ⟨y, y1, y2⟩ := xrv_rf (xokS_c (xokS_c o).2).1
    have hiff : y = x ↔ a = b := by
      rw [x2, y2]
      cases x <;> cases y <;> simp <;> omega
    rw [x1, y1]
    exact lv_acmp_eq F.1 F.2.1 d ht (fun q => k1 (hiff.mp q)) (fun q => k2 (fun w => q (hiff.mpr w)))
  · cases hb
theorem ok_acmp_ne {s0 : State} {A0 : Array Value} {D : va_G} {ta : Nat → ClassId} {l : Launch} {M pc np t : Nat} {off : Int} (d : decode (xbytes M) pc = .ok (.if_acmp .ne off, 3)) (hp : pc + 3 = np) (ht : (pc : Int) + off = (t : Int)) : BrOK s0 A0 D ta l M pc (xaNe t np) := by
  intro st cd t' f' st' hb
  subst hp
  unfold xaNe at hb
  split at hb
  · next b a r =>
    cases hb
    refine ⟨fun v hv => List.mem_cons_of_mem _ (List.mem_cons_of_mem _ hv), fun p e R s m args below meth c F Q H locs cells slots lsM o k1 k2 => ?_⟩
    show W p l e R s m args below meth c H locs cells slots Q (F0 m pc lsM (xrv b :: xrv a :: st'.map xcv))
    obtain ⟨x, x1, x2⟩ := xrv_rf (xokS_c o).1
    obtain ⟨y, y1, y2⟩ := xrv_rf (xokS_c (xokS_c o).2).1
    have hiff : y = x ↔ a = b := by
      rw [x2, y2]
      cases x <;> cases y <;> simp <;> omega
    rw [x1, y1]
    exact lv_acmp_ne F.1 F.2.1 d ht (fun q => k1 (fun w => q (hiff.mpr w))) (fun q => k2 (fun w => w (hiff.mp q)))
  · cases hb
/-- a switch's rows, checked -/
def xswT (lo : Int) (offs : List Int) (pc : Nat) : List (Int × Nat) := match offs with
  | [] => []
  | o :: r => (lo, ((pc : Int) + o).toNat) :: xswT (lo + 1) r pc
theorem xswT_spec : ∀ (offs : List Int) (lo : Int) (pc d : Nat) (z : Int), (z < lo ∨ lo + offs.length ≤ z → xsw (xswT lo offs pc) d z = d) ∧ (∀ (o : Int), lo ≤ z → offs[(z - lo).toNat]? = some o → xsw (xswT lo offs pc) d z = ((pc : Int) + o).toNat) := by
  intro offs
  induction offs with
  | nil =>
    intro lo pc d z
    exact ⟨fun _ => rfl, fun o _ h => by simp at h⟩
  | cons a r ih =>
    intro lo pc d z
    obtain ⟨i1, i2⟩ := ih (lo + 1) pc d z
    refine ⟨fun h => ?_, fun o h1 h2 => ?_⟩
    · show (if z = lo then _ else _) = _
      simp only [List.length_cons] at h
      rw [if_neg (by omega)]
      exact i1 (by omega)
    · show (if z = lo then _ else _) = _
      by_cases e : z = lo
      · rw [if_pos e]
        subst e
        rw [show (z - z).toNat = 0 by omega] at h2
        cases h2
        rfl
      · rw [if_neg e]
        refine i2 o (by omega) ?_
        rw [show (z - lo).toNat = (z - (lo + 1)).toNat + 1 by omega] at h2
        exact h2
theorem ok_tsw {s0 : State} {A0 : Array Value} {D : va_G} {ta : Nat → ClassId} {l : Launch} {M pc np : Nat} {dflt lo hi : Int} {offs : Array Int} {len : Nat} {cs : List (Int × Nat)} {dd : Nat} (d : decode (xbytes M) pc = .ok (.tableswitch dflt lo hi offs, len)) (hd : (pc : Int) + dflt = (dd : Int)) (hcs : xswT lo offs.toList pc = cs) (hn : lo + offs.size = hi + 1) (ho : offs.toList.all (fun o => decide (0 ≤ (pc : Int) + o)) = true) : ActOK s0 A0 D ta l M pc (x01 (xaSw cs dd)) := by
  refine ActOK.stk0 fun ls st h pc' ls' st' h' ha => ?_
  unfold xaSw at ha
  split at ha
  · next a r =>
    cases ha
    refine ⟨rfl, rfl, fun o oL oc => (xokS_c o).2, fun p e R s m args below meth c G F hf hl Q H locs cells slots lsM C k => ?_⟩
    have oa := (xokS_c C.2.2.2.2).1
    obtain ⟨i1, i2⟩ := xswT_spec offs.toList lo pc dd a
    rw [hcs, Array.length_toList] at i1
    rw [hcs] at i2
    by_cases hin : a < lo ∨ hi < a
    · rw [i1 (by omega)] at k
      exact lv_tableOut F.1 F.2.1 d (by rw [x32 oa]; exact hin) hd k
    · have hlt : (a - lo).toNat < offs.size := by omega
      have e1 : offs[(a - lo).toNat]? = some offs[(a - lo).toNat] := Array.getElem?_eq_getElem hlt
      have e2 : offs.toList[(a - lo).toNat]? = some offs[(a - lo).toNat] := by rw [Array.getElem?_toList]; exact e1
      have hpos := List.all_eq_true.mp ho _ (List.mem_of_getElem? e2)
      simp only [decide_eq_true_eq] at hpos
      rw [i2 _ (by omega) e2] at k
      exact lv_tableIn F.1 F.2.1 d (by rw [x32 oa]; omega) (by rw [x32 oa]; omega) (by rw [x32 oa]; exact e1) (by omega) k
  · cases ha
def xswL (pc : Nat) : List (Int × Int) → List (Int × Nat)
  | [] => []
  | (k, o) :: r => (k, ((pc : Int) + o).toNat) :: xswL pc r
theorem xswL_spec : ∀ (ps : List (Int × Int)) (pc d : Nat) (dflt z : Int), (pc : Int) + dflt = (d : Int) → ps.all (fun q => decide (0 ≤ (pc : Int) + q.2)) = true → (pc : Int) + Op.lookupswitch.offset ps dflt z = ((xsw (xswL pc ps) d z : Nat) : Int) := by
  intro ps
  induction ps with
  | nil =>
    intro pc d dflt z h _
    exact h
  | cons q r ih =>
    intro pc d dflt z h hp
    obtain ⟨k, o⟩ := q
    simp only [List.all_cons, Bool.and_eq_true, decide_eq_true_eq] at hp
    show (pc : Int) + (Op.lookupswitch.offset ((k, o) :: r) dflt z) = ((if z = k then ((pc : Int) + o).toNat else xsw (xswL pc r) d z : Nat) : Int)
    by_cases e : z = k
    · rw [if_pos e]
      have e2 : Op.lookupswitch.offset ((k, o) :: r) dflt z = o := by simp [Op.lookupswitch.offset, e]
      rw [e2]
      omega
    · rw [if_neg e]
      have e2 : Op.lookupswitch.offset ((k, o) :: r) dflt z = Op.lookupswitch.offset r dflt z := by simp [Op.lookupswitch.offset, Ne.symm e, e]
      rw [e2]
      exact ih pc d dflt z h hp.2
theorem ok_lsw {s0 : State} {A0 : Array Value} {D : va_G} {ta : Nat → ClassId} {l : Launch} {M pc np : Nat} {dflt : Int} {ps : Array (Int × Int)} {len : Nat} {cs : List (Int × Nat)} {dd : Nat} (d : decode (xbytes M) pc = .ok (.lookupswitch dflt ps, len)) (hd : (pc : Int) + dflt = (dd : Int)) (hcs : xswL pc ps.toList = cs) (hs : (ps.toList.zip (ps.toList.drop 1)).all (fun (a, next) => a.1 < next.1) = true) (ho : ps.toList.all (fun q => decide (0 ≤ (pc : Int) + q.2)) = true) : ActOK s0 A0 D ta l M pc (x01 (xaSw cs dd)) := by
  refine ActOK.stk0 fun ls st h pc' ls' st' h' ha => ?_
  unfold xaSw at ha
  split at ha
  · next a r =>
    cases ha
    refine ⟨rfl, rfl, fun o oL oc => (xokS_c o).2, fun p e R s m args below meth c G F hf hl Q H locs cells slots lsM C k => ?_⟩
    have oa := (xokS_c C.2.2.2.2).1
    have h1 := xswL_spec ps.toList pc dd dflt a hd ho
    rw [hcs] at h1
    exact lv_lookup F.1 F.2.1 d hs (by rw [x32 oa]) h1 k
  · cases ha
