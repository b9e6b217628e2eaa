/-! THE LAW, 1: the tables of the constant strings (bytes, hash, whether the hash is zero; where they stand in narrow_1) -/
set_option maxRecDepth 100000
set_option maxHeartbeats 4000000
def xcsD : List (List Int × Int × Int) := [([], 0, 1), ([116, 111, 119, 110], 3566226, 0), ([104, 111, 117, 115, 101], 99469088, 0), ([119, 114, 111, 110, 103], 113405357, 0), ([111, 112, 101, 110], 3417674, 0), ([115, 116, 114, 101, 101, 116], (-891990013), 0), ([112, 101, 114, 115, 111, 110], (-991716523), 0), ([115, 105, 103, 110], 3530173, 0), ([110, 111, 105, 115, 101], 104998682, 0), ([100, 111, 111, 114], 3089326, 0), ([108, 105, 107, 101], 3321751, 0), ([114, 111, 111, 109, 115], 108698360, 0), ([114, 101, 110, 116], 3496761, 0), ([98, 105, 108, 108], 3023879, 0), ([115, 109, 101, 108, 108, 115], (-898835000), 0), ([111, 102], 3543, 0), ([102, 114, 111, 109], 3151786, 0), ([116, 111], 3707, 0), ([109, 105, 110, 117, 116, 101, 115], 1064901855, 0), ([104, 111, 109, 101], 3208415, 0), ([97, 116], 3123, 0), ([116, 111, 119, 110], 3566226, 0), ([104, 111, 117, 115, 101], 99469088, 0), ([119, 114, 111, 110, 103], 113405357, 0), ([111, 112, 101, 110], 3417674, 0), ([115, 116, 114, 101, 101, 116], (-891990013), 0), ([112, 101, 114, 115, 111, 110], (-991716523), 0), ([115, 105, 103, 110], 3530173, 0), ([110, 111, 105, 115, 101], 104998682, 0), ([100, 111, 111, 114], 3089326, 0), ([108, 105, 107, 101], 3321751, 0), ([114, 111, 111, 109, 115], 108698360, 0), ([114, 101, 110, 116], 3496761, 0), ([98, 105, 108, 108], 3023879, 0), ([115, 109, 101, 108, 108, 115], (-898835000), 0), ([111, 102], 3543, 0), ([102, 114, 111, 109], 3151786, 0), ([116, 111], 3707, 0), ([109, 105, 110, 117, 116, 101, 115], 1064901855, 0), ([104, 111, 109, 101], 3208415, 0), ([97, 116], 3123, 0), ([], 0, 1)]
def xcsO : List Nat := [225, 232, 242, 253, 264, 274, 286, 298, 308, 319, 329, 339, 350, 360, 370, 382, 390, 400, 408, 421, 431, 439, 472, 484, 496, 507, 520, 533, 544, 450, 461, 556, 568, 579, 590, 603, 612, 623, 632, 646, 657, 219]
theorem xlawM : xname 297 = x := rfl
abbrev xLaw : Nat := 297
theorem xsr_0 : Cond.stringRef "WrongRoom$Reader" 59 "" ∈ lw_tbl := q659
theorem xsr_1 : Cond.stringRef "WrongRoom$Reader" 90 "town" ∈ lw_tbl := q728
theorem xsr_2 : Cond.stringRef "WrongRoom$Reader" 92 "house" ∈ lw_tbl := q737
theorem xsr_3 : Cond.stringRef "WrongRoom$Reader" 94 "wrong" ∈ lw_tbl := q738
theorem xsr_4 : Cond.stringRef "WrongRoom$Reader" 95 "open" ∈ lw_tbl := q739
theorem xsr_5 : Cond.stringRef "WrongRoom$Reader" 97 "street" ∈ lw_tbl := q740
theorem xsr_6 : Cond.stringRef "WrongRoom$Reader" 99 "person" ∈ lw_tbl := q741
theorem xsr_7 : Cond.stringRef "WrongRoom$Reader" 101 "sign" ∈ lw_tbl := q742
theorem xsr_8 : Cond.stringRef "WrongRoom$Reader" 103 "noise" ∈ lw_tbl := q743
theorem xsr_9 : Cond.stringRef "WrongRoom$Reader" 166 "door" ∈ lw_tbl := q748
theorem xsr_10 : Cond.stringRef "WrongRoom$Reader" 174 "like" ∈ lw_tbl := q765
theorem xsr_11 : Cond.stringRef "WrongRoom$Reader" 189 "rooms" ∈ lw_tbl := q845
theorem xsr_12 : Cond.stringRef "WrongRoom$Reader" 193 "rent" ∈ lw_tbl := q846
theorem xsr_13 : Cond.stringRef "WrongRoom$Reader" 197 "bill" ∈ lw_tbl := q847
theorem xsr_14 : Cond.stringRef "WrongRoom$Reader" 201 "smells" ∈ lw_tbl := q848
theorem xsr_15 : Cond.stringRef "WrongRoom$Reader" 215 "of" ∈ lw_tbl := q861
theorem xsr_16 : Cond.stringRef "WrongRoom$Reader" 225 "from" ∈ lw_tbl := q866
theorem xsr_17 : Cond.stringRef "WrongRoom$Reader" 229 "to" ∈ lw_tbl := q867
theorem xsr_18 : Cond.stringRef "WrongRoom$Reader" 243 "minutes" ∈ lw_tbl := q880
theorem xsr_19 : Cond.stringRef "WrongRoom$Reader" 255 "home" ∈ lw_tbl := q902
theorem xsr_20 : Cond.stringRef "WrongRoom$Reader" 259 "at" ∈ lw_tbl := q903
theorem xsr_21 : Cond.stringRef "WrongRoomModel" 151 "town" ∈ lw_tbl := q1670
theorem xsr_22 : Cond.stringRef "WrongRoomModel" 153 "house" ∈ lw_tbl := q1731
theorem xsr_23 : Cond.stringRef "WrongRoomModel" 155 "wrong" ∈ lw_tbl := q1748
theorem xsr_24 : Cond.stringRef "WrongRoomModel" 157 "open" ∈ lw_tbl := q1749
theorem xsr_25 : Cond.stringRef "WrongRoomModel" 159 "street" ∈ lw_tbl := q1750
theorem xsr_26 : Cond.stringRef "WrongRoomModel" 161 "person" ∈ lw_tbl := q1751
theorem xsr_27 : Cond.stringRef "WrongRoomModel" 163 "sign" ∈ lw_tbl := q1752
theorem xsr_28 : Cond.stringRef "WrongRoomModel" 165 "noise" ∈ lw_tbl := q1753
theorem xsr_29 : Cond.stringRef "WrongRoomModel" 236 "door" ∈ lw_tbl := q1714
theorem xsr_30 : Cond.stringRef "WrongRoomModel" 241 "like" ∈ lw_tbl := q1730
theorem xsr_31 : Cond.stringRef "WrongRoomModel" 253 "rooms" ∈ lw_tbl := q1758
theorem xsr_32 : Cond.stringRef "WrongRoomModel" 255 "rent" ∈ lw_tbl := q1759
theorem xsr_33 : Cond.stringRef "WrongRoomModel" 257 "bill" ∈ lw_tbl := q1760
theorem xsr_34 : Cond.stringRef "WrongRoomModel" 259 "smells" ∈ lw_tbl := q1761
theorem xsr_35 : Cond.stringRef "WrongRoomModel" 281 "of" ∈ lw_tbl := q1778
theorem xsr_36 : Cond.stringRef "WrongRoomModel" 291 "from" ∈ lw_tbl := q1791
theorem xsr_37 : Cond.stringRef "WrongRoomModel" 293 "to" ∈ lw_tbl := q1792
theorem xsr_38 : Cond.stringRef "WrongRoomModel" 307 "minutes" ∈ lw_tbl := q1801
theorem xsr_39 : Cond.stringRef "WrongRoomModel" 311 "home" ∈ lw_tbl := q1806
theorem xsr_40 : Cond.stringRef "WrongRoomModel" 317 "at" ∈ lw_tbl := q1811
theorem xsr_41 : Cond.stringRef "java/lang/String" 7 "" ∈ lw_tbl := q601
theorem xsr : ∀ (i k : Nat) (own tx : String), xcsT[i]? = some (own, k, tx) → Cond.stringRef own k tx ∈ lw_tbl := by
  intro i k own tx h
  match i, h with
  | 0, h => cases h; exact xsr_0
  | 1, h => cases h; exact xsr_1
  | 2, h => cases h; exact xsr_2
  | 3, h => cases h; exact xsr_3
  | 4, h => cases h; exact xsr_4
  | 5, h => cases h; exact xsr_5
  | 6, h => cases h; exact xsr_6
  | 7, h => cases h; exact xsr_7
  | 8, h => cases h; exact xsr_8
  | 9, h => cases h; exact xsr_9
  | 10, h => cases h; exact xsr_10
  | 11, h => cases h; exact xsr_11
  | 12, h => cases h; exact xsr_12
  | 13, h => cases h; exact xsr_13
  | 14, h => cases h; exact xsr_14
  | 15, h => cases h; exact xsr_15
  | 16, h => cases h; exact xsr_16
  | 17, h => cases h; exact xsr_17
  | 18, h => cases h; exact xsr_18
  | 19, h => cases h; exact xsr_19
  | 20, h => cases h; exact xsr_20
  | 21, h => cases h; exact xsr_21
  | 22, h => cases h; exact xsr_22
  | 23, h => cases h; exact xsr_23
  | 24, h => cases h; exact xsr_24
  | 25, h => cases h; exact xsr_25
  | 26, h => cases h; exact xsr_26
  | 27, h => cases h; exact xsr_27
  | 28, h => cases h; exact xsr_28
  | 29, h => cases h; exact xsr_29
  | 30, h => cases h; exact xsr_30
  | 31, h => cases h; exact xsr_31
  | 32, h => cases h; exact xsr_32
  | 33, h => cases h; exact xsr_33
  | 34, h => cases h; exact xsr_34
  | 35, h => cases h; exact xsr_35
  | 36, h => cases h; exact xsr_36
  | 37, h => cases h; exact xsr_37
  | 38, h => cases h; exact xsr_38
  | 39, h => cases h; exact xsr_39
  | 40, h => cases h; exact xsr_40
  | 41, h => cases h; exact xsr_41
  | i + 42, h => exact absurd (List.getElem?_eq_some_iff.mp h).1 (by show ¬ i + 42 < 42; omega)
theorem xins : ∀ (c : Nat) (q : vw_C), xcl[c]? = some q → ∃ n : Nat, Cond.instantiable q.1 n ∈ lw_all := by
  intro c q h
  match c, h with
  | 0, h => cases h; exact ⟨_, q142⟩
  | 1, h => cases h; exact ⟨_, q150⟩
  | 2, h => cases h; exact ⟨_, q156⟩
  | 3, h => cases h; exact ⟨_, q265⟩
  | 4, h => cases h; exact ⟨_, q294⟩
  | 5, h => cases h; exact ⟨_, q325⟩
  | 6, h => cases h; exact ⟨_, q335⟩
  | 7, h => cases h; exact ⟨_, q342⟩
  | 8, h => cases h; exact ⟨_, q371⟩
  | 9, h => cases h; exact ⟨_, q1398⟩
  | 10, h => cases h; exact ⟨_, q493⟩
  | 11, h => cases h; exact ⟨_, q775⟩
  | 12, h => cases h; exact ⟨_, q886⟩
  | 13, h => cases h; exact ⟨_, q909⟩
  | 14, h => cases h; exact ⟨_, q939⟩
  | 15, h => cases h; exact ⟨_, q1538⟩
  | 16, h => cases h; exact ⟨_, q582⟩
  | 17, h => cases h; exact ⟨_, q1377⟩
  | i + 18, h => exact absurd (List.getElem?_eq_some_iff.mp h).1 (by show ¬ i + 18 < 18; omega)
abbrev xFL : List Cond := flatC (Jvm.Cond.and given_1 narrow_1)
theorem xfl_cs : (Jvm.Cond.eq (Jvm.Term.static "java/lang/String" "COMPACT_STRINGS" "Z") (Jvm.Term.int (1 : Int32))) ∈ xFL := List.mem_of_getElem? (i := 7) (by decide +kernel)
theorem xfl_us : (Jvm.Cond.isRef (Jvm.Term.static "java/lang/Throwable" "UNASSIGNED_STACK" "[Ljava/lang/StackTraceElement;")) ∈ xFL := List.mem_of_getElem? (i := 4) (by decide +kernel)
theorem xfl_ss : (Jvm.Cond.isRef (Jvm.Term.static "java/lang/Throwable" "SUPPRESSED_SENTINEL" "Ljava/util/List;")) ∈ xFL := List.mem_of_getElem? (i := 5) (by decide +kernel)
theorem xfl_sf : (Jvm.Cond.isRef (Jvm.Term.static "jdk/internal/util/Preconditions" "SIOOBE_FORMATTER" "Ljava/util/function/BiFunction;")) ∈ xFL := List.mem_of_getElem? (i := 6) (by decide +kernel)
theorem xfl_n1 : (Jvm.Cond.not (Jvm.Cond.castable "WrongRoom$Noise" "WrongRoom$Sign")) ∈ xFL := List.mem_of_getElem? (i := 81) (by decide +kernel)
theorem xfl_n2 : (Jvm.Cond.not (Jvm.Cond.castable "WrongRoom$Person" "WrongRoom$House")) ∈ xFL := List.mem_of_getElem? (i := 61) (by decide +kernel)
-- lcs is at 603
theorem xfl_lcs : (Jvm.Cond.laysStatic "java/lang/String" "COMPACT_STRINGS" "Z") ∈ lw_tbl := q603
-- lus is at 182
theorem xfl_lus : (Jvm.Cond.laysStatic "java/lang/Throwable" "UNASSIGNED_STACK" "[Ljava/lang/StackTraceElement;") ∈ lw_tbl := q182
-- lss is at 184
theorem xfl_lss : (Jvm.Cond.laysStatic "java/lang/Throwable" "SUPPRESSED_SENTINEL" "Ljava/util/List;") ∈ lw_tbl := q184
-- lsf is at 593
theorem xfl_lsf : (Jvm.Cond.laysStatic "jdk/internal/util/Preconditions" "SIOOBE_FORMATTER" "Ljava/util/function/BiFunction;") ∈ lw_tbl := q593
/-! THE LAW, 2: from the start of the law's method to the mini-machine -/
/-- the conditions that narrow_1 has for a constant string -/
def xcsE (own : String) (k : Nat) (bs : List Int) (hs hz : Int) : List Cond :=
  [.exactly (.string own k) "java/lang/String", .eq (.field (.string own k) "java/lang/String" "coder" "B") (.int 0), .arrayOf (.field (.string own k) "java/lang/String" "value" "[B") .byte, .eq (.length (.field (.string own k) "java/lang/String" "value" "[B")) (.int (Int32.ofNat bs.length))] ++
  ((List.range bs.length).map (fun j => Cond.eq (.elem (.field (.string own k) "java/lang/String" "value" "[B") (.int (Int32.ofNat j))) (.int (Int32.ofInt (bs.getD j 0)))) ++
  [.eq (.field (.string own k) "java/lang/String" "hash" "I") (.int (Int32.ofInt hs)), .eq (.field (.string own k) "java/lang/String" "hashIsZero" "Z") (.int (Int32.ofInt hz))])
def xcsOK : Bool := let F := xFL
  (List.range 42).all fun i => match xcsT[i]?, xcsD[i]? with
    | some q, some r => let E := xcsE q.1 q.2.1 r.1 r.2.1 r.2.2
      decide ((F.drop (xnth 0 xcsO i)).take E.length = E)
    | _, _ => false
theorem xcs_ok : xcsOK = true := by decide +kernel
def xcsR : Bool := xcsD.all fun r => Nat.ble r.1.length 20 && (r.1.all (fun b => decide (-128 ≤ b ∧ b ≤ 127)) && (decide (-2147483648 ≤ r.2.1 ∧ r.2.1 < 2147483648) && decide (0 ≤ r.2.2 ∧ r.2.2 ≤ 1)))
theorem xcsR_ok : xcsR = true := by decide +kernel
theorem xcsE_in {i k : Nat} {own tx : String} {bs : List Int} {hs hz : Int} (h1 : xcsT[i]? = some (own, k, tx)) (h2 : xcsD[i]? = some (bs, hs, hz)) : ∀ w ∈ xcsE own k bs hs hz, w ∈ xFL := by
  intro w hw
  have hi : i < 42 := (List.getElem?_eq_some_iff.mp h1).1
  have k1 := List.all_eq_true.mp xcs_ok i (List.mem_range.mpr hi)
  rw [h1, h2] at k1
  simp only [decide_eq_true_eq] at k1
  rw [← k1] at hw
  exact List.mem_of_mem_drop (List.mem_of_mem_take hw)
/-- the cells of a constant string -/
theorem xcst_at {args : Array Value} {s : State} (hs : ∀ w ∈ xFL, w.before args s = true) {i k : Nat} {own tx : String} {bs : List Int} {hsh hz : Int} (h1 : xcsT[i]? = some (own, k, tx)) (h2 : xcsD[i]? = some (bs, hsh, hz)) :
    ∃ a v : Nat, (Term.string own k).eval args s none [] s = some (.ref a) ∧ va_O "java/lang/String" a (fun q => s.heap.size ≤ q) s s.heap ∧ va_OF "java/lang/String" "value" "[B" (.ref v) a (fun q => s.heap.size ≤ q) s s.heap ∧ va_OF "java/lang/String" "coder" "B" (.int 0) a (fun q => s.heap.size ≤ q) s s.heap ∧ va_OF "java/lang/String" "hash" "I" (.int (Int32.ofInt hsh)) a (fun q => s.heap.size ≤ q) s s.heap ∧ va_OF "java/lang/String" "hashIsZero" "Z" (.int (Int32.ofInt hz)) a (fun q => s.heap.size ≤ q) s s.heap ∧ va_T .byte v bs.length (fun j => .int (Int32.ofInt (bs.getD j 0))) (fun q => s.heap.size ≤ q) s s.heap := by
  have hin : ∀ w ∈ xcsE own k bs hsh hz, w.before args s = true := fun w hw => hs w (xcsE_in h1 h2 w hw)
  have hA : ∀ a : Nat, a < s.heap.size → ¬ s.heap.size ≤ a := fun a h => by omega
  have hlen : bs.length < 2 ^ 31 := by
    have k1 := List.all_eq_true.mp xcsR_ok _ (List.mem_of_getElem? h2)
    rw [Bool.and_eq_true] at k1
    have k2 := Nat.le_of_ble_eq_true k1.1
    have k2 : bs.length ≤ 20 := k2
    omega
  obtain ⟨a, c, cA, kA, q1, q2, q3, q4, q5, q6, -⟩ := Cond.exactly_spec (args := args) (first := s) (o := none) (s := s) (idx := []) (t := .string own k) (cls := "java/lang/String") (hin _ (by simp [xcsE]))
  obtain ⟨t, ht, hT⟩ := va_Tof (f := fun j => .int (Int32.ofInt (bs.getD j 0))) (A := fun q => s.heap.size ≤ q) hlen (hin (.arrayOf (.field (.string own k) "java/lang/String" "value" "[B") .byte) (by simp [xcsE])) (va_eqt (hin _ (by simp [xcsE]))) (fun j hj => va_eqt (hin _ (by
    refine List.mem_append_right _ (List.mem_append_left _ (List.mem_map.mpr ⟨j, List.mem_range.mpr hj, rfl⟩)))) ) hA
  exact ⟨a, t, q1, ⟨cA, q3, q5, by rw [q6]; exact q2, hA a (Array.getElem?_eq_some_iff.mp q3).1⟩, vk_OFof q1 ht hA, vk_OFof q1 (va_eqt (hin _ (by simp [xcsE]))) hA, vk_OFof q1 (va_eqt (hin _ (by simp [xcsE]))) hA, vk_OFof q1 (va_eqt (hin _ (by simp [xcsE]))) hA, hT⟩
/-- what the mini-machine's first heap holds -/
def XStr (h : XH) (z : Int) (bs : List Int) (hs hz : Int) : Prop := xty h z = some (false, 16, none) ∧ xfl h z 161 = 0 ∧ xfl h z 162 = hs ∧ xfl h z 163 = hz ∧ xty h (xfl h z 160) = some (false, 1, some (bs.length : Int)) ∧ ∀ j : Nat, j < bs.length → xar h (xfl h z 160) j = bs.getD j 0
def XStart (h : XH) (scr : Int) (L : Nat) (xs : Nat → Int) : Prop := (∀ (z : Int) (t : XT), xty h z = some t → 1 ≤ z ∧ z < xsz h ∧ t.1 = false) ∧ (∀ (i : Nat) (r : List Int × Int × Int), xcsD[i]? = some r → XStr h (xcs h i) r.1 r.2.1 r.2.2) ∧ xty h scr = some (false, 0, some (L : Int)) ∧ (∀ j : Nat, j < L → xar h scr j = xs j ∧ -2147483648 ≤ xs j ∧ xs j < 2147483648) ∧ 1 ≤ xsz h ∧ ∀ k : Nat, 0 ≤ xcs h k
/-- a value out of the machine's heap, as the mini-machine has it -/
def xdec (v : Option Value) : Int := match v with
  | some (.int z) => z.toInt
  | some (.ref a) => (a : Int) + 1
  | _ => 0
theorem xdec_int (z : Int) (h : xok (.inl z)) : xdec (some (.int (Int32.ofInt z))) = z := x32 h
theorem xworld {args : Array Value} {s : State} (l : Launch) (hflags : l.flags = flags0) (h0 : ∀ w ∈ lw_tbl, w.before args s = true) (hs : ∀ w ∈ xFL, w.before args s = true) : ∃ (D : va_G) (ta : Nat → ClassId), XG s args D ta l := by
  have hts : ∀ w ∈ lw_all, w.before args s = true := fun w hw => h0 w (lw_all_tbl hw)
  have k0 : ∀ c : Nat, ∃ r : ClassId × (Nat → Nat), ∀ q : vw_C, xcl[c]? = some q → u_Kn s q.1 q.2.1 q.2.2 r.1 r.2 := by
    intro c
    cases hq : xcl[c]? with
    | none => exact ⟨(0, fun _ => 0), fun q h => by cases h⟩
    | some q =>
      obtain ⟨n, hi⟩ := xins c q hq
      obtain ⟨cC, iS, hk⟩ := u_known hts (xlays hq) (hts _ hi)
      exact ⟨(cC, iS), fun q' h => by cases h; exact hk⟩
  obtain ⟨fD, hD⟩ := Classical.axiomOfChoice k0
  have ka : ∀ e : Nat, ∃ cA : ClassId, e < 8 → ArrOfT s cA (xeT e) ∧ va_RA s cA (xeT e) := by
    intro e
    have prim : ∀ ty : FieldType, (Cond.arrayClass ty).before args s = true → ∃ cA : ClassId, ArrOfT s cA ty ∧ s.vm.findClass ("[" ++ ty.toString) = some cA := by
      intro ty hty
      obtain ⟨c, k, comp, f1, f2, f3⟩ := Cond.arrayClass_spec hty
      exact ⟨c, fun N z => ⟨(fun k h => by cases h), k, f2, comp, f3⟩, f1⟩
    have obj : ∀ C : String, (Cond.arrayOver (.object C)).before args s = true → ∃ cA : ClassId, ArrOfT s cA (.object C) ∧ va_RA s cA (.object C) := by
      intro C hC
      obtain ⟨comp, c, k, f1, f2, f3, f4, f5⟩ := Cond.arrayOver_spec hC
      exact ⟨c, fun N z => ⟨(fun k h => by cases h), k, f3, comp, f4⟩, k, comp, f3, f4, f1, f5⟩
    match e with
    | 0 => obtain ⟨c, h⟩ := prim .int (h0 _ (lw_all_tbl q292)); exact ⟨c, fun _ => h⟩
    | 1 => obtain ⟨c, h⟩ := prim .byte (h0 _ (lw_all_tbl q228)); exact ⟨c, fun _ => h⟩
    | 2 => obtain ⟨c, h⟩ := prim .char (h0 _ (lw_all_tbl q263)); exact ⟨c, fun _ => h⟩
    | 3 => obtain ⟨c, h⟩ := prim .long (h0 _ (lw_all_tbl q1646)); exact ⟨c, fun _ => h⟩
    | 4 => obtain ⟨c, h⟩ := obj "WrongRoom$Rooms" (h0 _ q377); exact ⟨c, fun _ => h⟩
    | 5 => obtain ⟨c, h⟩ := obj "WrongRoom$House" (h0 _ q499); exact ⟨c, fun _ => h⟩
    | 6 => obtain ⟨c, h⟩ := obj "WrongRoom$Person" (h0 _ q501); exact ⟨c, fun _ => h⟩
    | 7 => obtain ⟨c, h⟩ := obj "WrongRoom$Notice" (h0 _ q503); exact ⟨c, fun _ => h⟩
    | e + 8 => exact ⟨0, fun h => by omega⟩
  obtain ⟨fa, ha⟩ := Classical.axiomOfChoice ka
  refine ⟨(fun c => (fD c).1, fun c => (fD c).2), fa, h0, fun c q hq => hD c q hq, fun e he => ha e he, ?_, va_Nc.of (hs _ xfl_n1), va_Nc.of (hs _ xfl_n2)⟩
  unfold Launch.stackTraces
  rw [hflags]
  decide +kernel
