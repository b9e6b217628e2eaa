/-! THE LAW, 3: the mini-machine's first heap -/
set_option maxRecDepth 100000
set_option maxHeartbeats 4000000
/-- what is known of the constant strings' cells -/
def XKs (s : State) (args : Array Value) (i : Nat) (p : Nat × Nat) : Prop := ∀ (own tx : String) (k : Nat) (bs : List Int) (hsh hz : Int), xcsT[i]? = some (own, k, tx) → xcsD[i]? = some (bs, hsh, hz) →
  (Term.string own k).eval args s none [] s = some (.ref p.1) ∧ va_O "java/lang/String" p.1 (fun q => s.heap.size ≤ q) s s.heap ∧ va_OF "java/lang/String" "value" "[B" (.ref p.2) p.1 (fun q => s.heap.size ≤ q) s s.heap ∧ va_OF "java/lang/String" "coder" "B" (.int 0) p.1 (fun q => s.heap.size ≤ q) s s.heap ∧ va_OF "java/lang/String" "hash" "I" (.int (Int32.ofInt hsh)) p.1 (fun q => s.heap.size ≤ q) s s.heap ∧ va_OF "java/lang/String" "hashIsZero" "Z" (.int (Int32.ofInt hz)) p.1 (fun q => s.heap.size ≤ q) s s.heap ∧ va_T .byte p.2 bs.length (fun j => .int (Int32.ofInt (bs.getD j 0))) (fun q => s.heap.size ≤ q) s s.heap
theorem xks {args : Array Value} {s : State} (hs : ∀ w ∈ xFL, w.before args s = true) : ∃ f : Nat → Nat × Nat, ∀ i : Nat, XKs s args i (f i) := by
  have k : ∀ i : Nat, ∃ p : Nat × Nat, XKs s args i p := by
    intro i
    cases h1 : xcsT[i]? with
    | none => exact ⟨(0, 0), fun own tx k bs hsh hz h => by rw [h1] at h; cases h⟩
    | some q =>
      cases h2 : xcsD[i]? with
      | none => exact ⟨(0, 0), fun own tx k bs hsh hz _ h => by rw [h2] at h; cases h⟩
      | some r =>
        obtain ⟨own, k, tx⟩ := q
        obtain ⟨bs, hsh, hz⟩ := r
        obtain ⟨a, v, h⟩ := xcst_at hs h1 h2
        refine ⟨(a, v), fun own' tx' k' bs' hsh' hz' g1 g2 => ?_⟩
        rw [h1] at g1
        rw [h2] at g2
        cases g1
        cases g2
        exact h
  exact Classical.axiomOfChoice k
theorem xzq {args : Array Value} {s : State} {C n d : String} (hl : (Cond.laysStatic C n d).before args s = true) (hini : (Cond.initialized C).before args s = true) (h : (Cond.isRef (.static C n d)).before args s = true) : ∃ z : Int, 0 ≤ z ∧ va_Z C n d (xrv z) (fun q => s.heap.size ≤ q) s s.heap ∧ vx_L C n d (fun q => s.heap.size ≤ q) s s.heap := by
  have h1 := vx_Zqof (A := fun q => s.heap.size ≤ q) hl hini h (fun a h => by omega)
  rcases h1.1 with e | ⟨t, e⟩
  · exact ⟨0, Int.le_refl _, e, h1.2⟩
  · refine ⟨(t : Int) + 1, by omega, ?_, h1.2⟩
    rw [xrv_pos rfl]
    exact e
def xrd (H : Heap) (z : Int) (k : Nat) : Int := xdec (match H[(z - 1).toNat]? with
  | some c => c.slots[k]?
  | none => none)
def xln (H : Heap) (z : Int) : Int := match H[(z - 1).toNat]? with
  | some c => c.slots.size.toInt32.toInt
  | none => 0
theorem xrd_at {H : Heap} {a k : Nat} {c : Cell} (h : H[a]? = some c) : xrd H ((a : Int) + 1) k = xdec c.slots[k]? := by
  unfold xrd
  rw [show ((a : Int) + 1 - 1).toNat = a by omega, h]
theorem xln_at {H : Heap} {a : Nat} {c : Cell} (h : H[a]? = some c) : xln H ((a : Int) + 1) = c.slots.size.toInt32.toInt := by
  unfold xln
  rw [show ((a : Int) + 1 - 1).toNat = a by omega, h]
theorem xcs_D {i : Nat} {bs : List Int} {hsh hz : Int} (h2 : xcsD[i]? = some (bs, hsh, hz)) : bs.length ≤ 20 ∧ (∀ j : Nat, j < bs.length → -128 ≤ bs.getD j 0 ∧ bs.getD j 0 ≤ 127) ∧ (-2147483648 ≤ hsh ∧ hsh < 2147483648) ∧ 0 ≤ hz ∧ hz ≤ 1 := by
  have k1 := List.all_eq_true.mp xcsR_ok _ (List.mem_of_getElem? h2)
  simp only [Bool.and_eq_true, decide_eq_true_eq] at k1
  obtain ⟨a, b, c, d⟩ := k1
  refine ⟨Nat.le_of_ble_eq_true a, fun j hj => ?_, c, d⟩
  have h := List.all_eq_true.mp b (bs.getD j 0) (by rw [List.getD_eq_getElem?_getD, List.getElem?_eq_getElem hj]; exact List.getElem_mem hj)
  simpa using h
theorem xcs_both {i : Nat} : (∀ r, xcsD[i]? = some r → ∃ q, xcsT[i]? = some q) ∧ (∀ q, xcsT[i]? = some q → ∃ r, xcsD[i]? = some r) := by
  have e1 : xcsT.length = 42 := rfl
  have e2 : xcsD.length = 42 := rfl
  refine ⟨fun r h => ?_, fun r h => ?_⟩
  · have := (List.getElem?_eq_some_iff.mp h).1
    exact ⟨_, List.getElem?_eq_getElem (by omega)⟩
  · have := (List.getElem?_eq_some_iff.mp h).1
    exact ⟨_, List.getElem?_eq_getElem (by omega)⟩
/-- a constant string's cell, in the mini-machine's words -/
theorem xob_cs {s : State} {args : Array Value} {D : va_G} {ta : Nat → ClassId} {l : Launch} (G : XG s args D ta l) {i : Nat} {p : Nat × Nat} (K : XKs s args i p) {own tx : String} {k : Nat} {bs : List Int} {hsh hz : Int} (h1 : xcsT[i]? = some (own, k, tx)) (h2 : xcsD[i]? = some (bs, hsh, hz)) : ∃ cell : Cell, s.heap[p.1]? = some cell ∧ cell.vm ≠ .unknown ∧ cell.vm.isStatics = false ∧ cell.cls = D.1 16 ∧ cell.slots[D.2 16 0]? = some (.ref p.2) ∧ cell.slots[D.2 16 1]? = some (.int 0) ∧ cell.slots[D.2 16 2]? = some (.int (Int32.ofInt hsh)) ∧ cell.slots[D.2 16 3]? = some (.int (Int32.ofInt hz)) := by
  obtain ⟨-, ⟨cell, c1, c2, c3, -⟩, f0, f1, f2, f3, -⟩ := K own tx k bs hsh hz h1 h2
  obtain ⟨hS, hfc, kC, hkC, hkind⟩ := G.2.1 16 _ xq_16
  have hcls : cell.cls = D.1 16 := Option.some.inj (c3.symm.trans hfc)
  have get : ∀ {n d : String} {v : Value} (j : Nat), j < 4 → (TJ3 j).1 = "java/lang/String" → (TJ3 j).2.1 = n → (TJ3 j).2.2.1 = d → va_OF "java/lang/String" n d v p.1 (fun q => s.heap.size ≤ q) s s.heap → cell.vm ≠ .unknown ∧ cell.slots[D.2 16 j]? = some v := by
    intro n d v j hj e1 e2 e3 hv
    obtain ⟨cf, kf, fi, fd, hi, hsl⟩ := hS j hj
    obtain ⟨cf', k', i', f', cell', g1, g2, g3, g4, g5, g6⟩ := hv
    have hi : s.fieldFound? (TJ3 j).1 (TJ3 j).2.1 (TJ3 j).2.2.1 = some (cf, kf, fi, fd) := hi
    rw [e1, e2, e3, g1] at hi
    cases hi
    rw [c1] at g3
    cases g3
    rw [← hsl]
    exact ⟨g4, g5⟩
  have g0 := get 0 (by decide) rfl rfl rfl f0
  exact ⟨cell, c1, g0.1, c2, hcls, g0.2, (get 1 (by decide) rfl rfl rfl f1).2, (get 2 (by decide) rfl rfl rfl f2).2, (get 3 (by decide) rfl rfl rfl f3).2⟩
theorem xstart {args : Array Value} {s : State} {D : va_G} {ta : Nat → ClassId} {l : Launch} (G : XG s args D ta l) (hs : ∀ w ∈ xFL, w.before args s = true) {b L : Nat} {xs : Nat → Int32} (hX : va_X b L xs s s.heap) (hL : L ≤ 384) : ∃ h0 : XH, XRel s D ta h0 s.heap ∧ XStart h0 ((b : Int) + 1) L (fun j => (xs j).toInt) := by
  classical
  have h0 := G.1
  obtain ⟨f, hf⟩ := xks hs
  obtain ⟨cu, cu0, cu1, cu2⟩ := xzq (h0 _ xfl_lus) (h0 _ (lw_all_tbl q113)) (hs _ xfl_us)
  obtain ⟨cn, cn0, cn1, cn2⟩ := xzq (h0 _ xfl_lss) (h0 _ (lw_all_tbl q113)) (hs _ xfl_ss)
  obtain ⟨cf, cf0, cf1, -⟩ := xzq (h0 _ xfl_lsf) (h0 _ (lw_all_tbl q127)) (hs _ xfl_sf)
  have hcs : va_Z "java/lang/String" "COMPACT_STRINGS" "Z" (.int 1) (fun q => s.heap.size ≤ q) s s.heap := va_Zof (h0 _ xfl_lcs) (h0 _ (lw_all_tbl q126)) (va_eqt (hs _ xfl_cs)) (fun a h => by omega)
  obtain ⟨scr, s1, s2, s3, s4, s5⟩ := hX
  obtain ⟨hS16, hfc16, k16, hk16, hkind16⟩ := G.2.1 16 _ xq_16
  obtain ⟨cs, hcsd⟩ : ∃ cs : Nat → Int, cs = fun k => if k < 42 then ((f k).1 : Int) + 1 else if k = 50 then cu else if k = 51 then cn else if k = 52 then cf else 0 := ⟨_, rfl⟩
  have c50 : cs 50 = cu := by rw [hcsd]; simp
  have c51 : cs 51 = cn := by rw [hcsd]; simp
  have c52 : cs 52 = cf := by rw [hcsd]; simp
  have clt : ∀ i : Nat, i < 42 → cs i = ((f i).1 : Int) + 1 := fun i hi => by rw [hcsd]; simp [hi]
  have cpos : ∀ k : Nat, 0 ≤ cs k := by
    intro k
    rw [hcsd]
    show 0 ≤ (if k < 42 then ((f k).1 : Int) + 1 else if k = 50 then cu else if k = 51 then cn else if k = 52 then cf else 0)
    split
    · omega
    · split
      · exact cu0
      · split
        · exact cn0
        · split
          · exact cf0
          · exact Int.le_refl _
  obtain ⟨ty, htyd⟩ : ∃ ty : Int → Option XT, ty = fun z => if z = (b : Int) + 1 then some (false, 0, some (L : Int)) else if ∃ i : Nat, i < 42 ∧ z = ((f i).1 : Int) + 1 then some (false, 16, none) else if ∃ i : Nat, i < 42 ∧ z = ((f i).2 : Int) + 1 then some (false, 1, some (xln s.heap z)) else none := ⟨_, rfl⟩
  have tyv : ∀ z : Int, ty z = if z = (b : Int) + 1 then some (false, 0, some (L : Int)) else if ∃ i : Nat, i < 42 ∧ z = ((f i).1 : Int) + 1 then some (false, 16, none) else if ∃ i : Nat, i < 42 ∧ z = ((f i).2 : Int) + 1 then some (false, 1, some (xln s.heap z)) else none := fun z => by rw [htyd]
  -- the strings' rows
  have row : ∀ i : Nat, i < 42 → ∃ (own tx : String) (k : Nat) (bs : List Int) (hsh hz : Int), xcsT[i]? = some (own, k, tx) ∧ xcsD[i]? = some (bs, hsh, hz) := by
    intro i hi
    have e1 : xcsT.length = 42 := rfl
    have e2 : xcsD.length = 42 := rfl
    exact ⟨xcsT[i].1, xcsT[i].2.2, xcsT[i].2.1, xcsD[i].1, xcsD[i].2.1, xcsD[i].2.2, List.getElem?_eq_getElem (by omega), List.getElem?_eq_getElem (by omega)⟩
  have arrk : ∀ {cell : Cell} {t : FieldType}, s.isArrayOf cell t → cell.cls ≠ D.1 16 := by
    intro cell t ha hc
    obtain ⟨-, k, hk, comp, hkk⟩ := ha
    rw [hc, hk16] at hk
    cases hk
    rw [hkind16] at hkk
    cases hkk
  have kinds : ∀ {cell : Cell} {t t' : FieldType}, s.isArrayOf cell t → s.isArrayOf cell t' → t = t' := by
    intro cell t t' h1 h2
    obtain ⟨-, k, hk, comp, hkk⟩ := h1
    obtain ⟨-, k', hk', comp', hkk'⟩ := h2
    rw [hk] at hk'
    cases hk'
    rw [hkk] at hkk'
    cases hkk'
    rfl
  have obj : ∀ i : Nat, i < 42 → ty (((f i).1 : Int) + 1) = some (false, 16, none) := by
    intro i hi
    obtain ⟨own, tx, k, bs, hsh, hz, g1, g2⟩ := row i hi
    obtain ⟨cell, d1, d2, d3, d4, -⟩ := xob_cs G (hf i) g1 g2
    rw [tyv, if_neg, if_pos ⟨i, hi, rfl⟩]
    intro e
    have e : (f i).1 = b := by omega
    rw [e, s1] at d1
    cases d1
    exact arrk s2 d4
  have arr : ∀ i : Nat, i < 42 → ∀ (own tx : String) (k : Nat) (bs : List Int) (hsh hz : Int), xcsT[i]? = some (own, k, tx) → xcsD[i]? = some (bs, hsh, hz) → ty (((f i).2 : Int) + 1) = some (false, 1, some (bs.length : Int)) ∧ ∃ cell : Cell, s.heap[(f i).2]? = some cell ∧ s.isArrayOf cell .byte ∧ cell.vm ≠ .unknown ∧ bs.length ≤ cell.slots.size ∧ cell.slots.size.toInt32 = Int32.ofInt (bs.length : Int) ∧ ∀ j : Nat, j < bs.length → cell.slots[j]? = some (.int (Int32.ofInt (bs.getD j 0))) := by
    intro i hi own tx k bs hsh hz g1 g2
    obtain ⟨-, -, -, -, -, -, cell, v1, v2, v3, v4, v5, v6, -⟩ := hf i own tx k bs hsh hz g1 g2
    have hlen := (xcs_D g2).1
    refine ⟨?_, cell, v1, v2, v3, v4, v5, v6⟩
    rw [tyv, if_neg, if_neg, if_pos ⟨i, hi, rfl⟩, xln_at v1, v5]
    · have : (Int32.ofNat bs.length).toInt = (bs.length : Int) := x32 (z := (bs.length : Int)) ⟨by omega, by omega⟩
      rw [this]
    · rintro ⟨j, hj, e⟩
      have e : (f i).2 = (f j).1 := by omega
      obtain ⟨own', tx', k', bs', hsh', hz', g1', g2'⟩ := row j hj
      obtain ⟨cell', d1, d2, d3, d4, -⟩ := xob_cs G (hf j) g1' g2'
      rw [e, d1] at v1
      cases v1
      exact arrk v2 d4
    · intro e
      have e : (f i).2 = b := by omega
      rw [e, s1] at v1
      cases v1
      exact absurd (kinds s2 v2) (by decide)
  have hscr : ty ((b : Int) + 1) = some (false, 0, some (L : Int)) := by rw [tyv, if_pos rfl]
  obtain ⟨h, hd⟩ : ∃ h : XH, h = (cs, ty, fun z fid => xrd s.heap z (D.2 16 (fid - 160)), fun z j => xrd s.heap z j.toNat, (s.heap.size : Int) + 1, 0) := ⟨_, rfl⟩
  have dcs : xcs h = cs := by rw [hd]; rfl
  have dty : ∀ z, xty h z = ty z := fun z => by rw [hd]; rfl
  have dfl : ∀ z fid, xfl h z fid = xrd s.heap z (D.2 16 (fid - 160)) := fun z fid => by rw [hd]; rfl
  have dar : ∀ z j, xar h z j = xrd s.heap z j.toNat := fun z j => by rw [hd]; rfl
  have dsz : xsz h = (s.heap.size : Int) + 1 := by rw [hd]; rfl
  have key : ∀ (z : Int) (t : XT), xty h z = some t → ∃ (a : Nat) (cell : Cell), z = (a : Int) + 1 ∧ s.heap[a]? = some cell ∧ t.1 = false ∧ XCell s D ta t h z cell := by
    intro z t ht
    rw [dty, tyv] at ht
    split at ht
    · next e =>
      cases ht
      refine ⟨b, scr, e, s1, rfl, s2, s3, Int.natCast_nonneg L, by omega, ⟨?_, ?_⟩, ?_, (fun q => by cases q), by decide⟩
      · rw [s4]; show ((L : Int)).toNat ≤ L; omega
      · rw [s4]; rfl
      · intro j hj
        have hj' : j < L := by omega
        rw [dar, e, xrd_at s1]
        show scr.slots[j]? = some (.int (Int32.ofInt (xdec scr.slots[j]?))) ∧ (-2147483648 ≤ xdec scr.slots[j]? ∧ xdec scr.slots[j]? < 2147483648)
        rw [s5 j hj']
        refine ⟨?_, x32i (xs j)⟩
        show _ = some (Value.int (Int32.ofInt (xs j).toInt))
        rw [Int32.ofInt_toInt]
    · split at ht
      · next e1 e =>
        cases ht
        obtain ⟨i, hi, e⟩ := e
        obtain ⟨own, tx, k, bs, hsh, hz, g1, g2⟩ := row i hi
        obtain ⟨cell, d1, d2, d3, d4, d5, d6, d7, d8⟩ := xob_cs G (hf i) g1 g2
        obtain ⟨-, -, r1, r2⟩ := xcs_D g2
        refine ⟨(f i).1, cell, e, d1, rfl, d2, d3, (fun q => by cases q), d4, by decide, fun k' fid hk => ?_⟩
        have hk' : k' < 4 := (List.getElem?_eq_some_iff.mp hk).1
        rw [dfl, e, xrd_at d1]
        match k', hk with
        | 0, hk =>
          cases hk
          show cell.slots[D.2 16 0]? = some (xrv (xdec cell.slots[D.2 16 0]?)) ∧ 0 ≤ xdec cell.slots[D.2 16 0]?
          rw [d5]
          refine ⟨?_, by show (0 : Int) ≤ ((f i).2 : Int) + 1; omega⟩
          show _ = some (xrv (((f i).2 : Int) + 1))
          rw [xrv_pos rfl]
        | 1, hk =>
          cases hk
          show cell.slots[D.2 16 1]? = some (.int (Int32.ofInt (xdec cell.slots[D.2 16 1]?))) ∧ -128 ≤ xdec cell.slots[D.2 16 1]? ∧ xdec cell.slots[D.2 16 1]? ≤ 127
          rw [d6]
          exact ⟨rfl, by decide, by decide⟩
        | 2, hk =>
          cases hk
          show cell.slots[D.2 16 2]? = some (.int (Int32.ofInt (xdec cell.slots[D.2 16 2]?))) ∧ -2147483648 ≤ xdec cell.slots[D.2 16 2]? ∧ xdec cell.slots[D.2 16 2]? < 2147483648
          rw [d7, xdec_int hsh r1]
          exact ⟨rfl, r1⟩
        | 3, hk =>
          cases hk
          show cell.slots[D.2 16 3]? = some (.int (Int32.ofInt (xdec cell.slots[D.2 16 3]?))) ∧ 0 ≤ xdec cell.slots[D.2 16 3]? ∧ xdec cell.slots[D.2 16 3]? ≤ 1
          rw [d8, xdec_int hz ⟨by omega, by omega⟩]
          exact ⟨rfl, r2⟩
        | k' + 4, hk => omega
      · split at ht
        · next e2 e1 e =>
          obtain ⟨i, hi, e⟩ := e
          obtain ⟨own, tx, k, bs, hsh, hz, g1, g2⟩ := row i hi
          obtain ⟨v0, cell, v1, v2, v3, v4, v5, v6⟩ := arr i hi own tx k bs hsh hz g1 g2
          obtain ⟨hlen, hb, -⟩ := xcs_D g2
          have ht2 : xty h z = some t := by rw [dty, tyv, if_neg e2, if_neg e1, if_pos ⟨i, hi, e⟩]; exact ht
          rw [dty, e, v0] at ht2
          cases ht2
          refine ⟨(f i).2, cell, e, v1, rfl, v2, v3, by omega, by omega, ⟨by omega, v5⟩, fun j hj => ?_, (fun q => by cases q), by decide⟩
          have hj' : j < bs.length := by omega
          rw [dar, e, xrd_at v1]
          show cell.slots[j]? = some (.int (Int32.ofInt (xdec cell.slots[j]?))) ∧ -128 ≤ xdec cell.slots[j]? ∧ xdec cell.slots[j]? ≤ 127
          rw [v6 j hj', xdec_int _ (show _ ∧ _ from ⟨by have := (hb j hj').1; omega, by have := (hb j hj').2; omega⟩)]
          exact ⟨rfl, hb j hj'⟩
        · cases ht
  refine ⟨h, ⟨fun q _ => rfl, Nat.le_refl _, dsz, fun z t ht => ?_, by rw [dcs]; exact cpos, ?_, hcs, by rw [dcs, c50]; exact cu1, by rw [dcs, c51]; exact cn1, by rw [dcs, c52]; exact cf1, cu2, cn2⟩, fun z t ht => ?_, fun i r hr => ?_, by rw [dty]; exact hscr, fun j hj => ?_, by omega, by rw [dcs]; exact cpos⟩
  · obtain ⟨a, cell, e1, e2, e3, e4⟩ := key z t ht
    exact ⟨a, cell, e1, e2, (fun q => by rw [e3] at q; cases q), e4⟩
  · intro i k own tx hi
    have hi42 : i < 42 := (List.getElem?_eq_some_iff.mp hi).1
    obtain ⟨own', tx', k', bs, hsh, hz, g1, g2⟩ := row i hi42
    have e1 := hi.symm.trans g1
    cases e1
    obtain ⟨ev, -⟩ := hf i own tx k bs hsh hz g1 g2
    exact ⟨(f i).1, by rw [dcs]; exact clt i hi42, vk_R.of (h0 _ (xsr i k own tx hi)) ev⟩
  · obtain ⟨a, cell, e1, e2, e3, e4⟩ := key z t ht
    have := (Array.getElem?_eq_some_iff.mp e2).1
    exact ⟨by omega, by omega, e3⟩
  · have hi42 : i < 42 := (List.getElem?_eq_some_iff.mp hr).1
    obtain ⟨own, tx, k, bs, hsh, hz, g1, g2⟩ := row i hi42
    have e1 := hr.symm.trans g2
    cases e1
    obtain ⟨cell, d1, d2, d3, d4, d5, d6, d7, d8⟩ := xob_cs G (hf i) g1 g2
    obtain ⟨v0, cell', v1, v2, v3, v4, v5, v6⟩ := arr i hi42 own tx k bs hsh hz g1 g2
    obtain ⟨hlen, hb, r1, r2⟩ := xcs_D g2
    have ev : xfl h (((f i).1 : Int) + 1) 160 = ((f i).2 : Int) + 1 := by
      rw [dfl, xrd_at d1]
      show xdec cell.slots[D.2 16 0]? = _
      rw [d5]
      rfl
    rw [dcs, clt i hi42]
    refine ⟨by rw [dty]; exact obj i hi42, ?_, ?_, ?_, by rw [ev, dty]; exact v0, fun j hj => ?_⟩
    · rw [dfl, xrd_at d1]
      show xdec cell.slots[D.2 16 1]? = 0
      rw [d6]
      rfl
    · rw [dfl, xrd_at d1]
      show xdec cell.slots[D.2 16 2]? = hsh
      rw [d7, xdec_int hsh r1]
    · rw [dfl, xrd_at d1]
      show xdec cell.slots[D.2 16 3]? = hz
      rw [d8, xdec_int hz ⟨by omega, by omega⟩]
    · rw [ev, dar, xrd_at v1]
      show xdec cell'.slots[j]? = _
      rw [v6 j hj, xdec_int _ (show _ ∧ _ from ⟨by have := (hb j hj).1; omega, by have := (hb j hj).2; omega⟩)]
  · rw [dar, xrd_at s1]
    show xdec scr.slots[j]? = _ ∧ _
    rw [s5 j hj]
    exact ⟨rfl, x32i (xs j)⟩
