/-! WALKS, 73: what holds of a town while it is read -/
set_option maxRecDepth 100000
set_option maxHeartbeats 4000000
def TIv (T : XTw) (e : Int) : Prop := (0 ≤ tsc T 0 ∧ tsc T 0 ≤ 9) ∧ (0 ≤ tsc T 1 ∧ tsc T 1 ≤ 9) ∧ (0 ≤ tnh T ∧ tnh T ≤ 7) ∧ (0 ≤ tpm T ∧ tpm T ≤ 4) ∧ ((0 ≤ tsc T 3 ∧ tsc T 3 ≤ e) ∧ (0 ≤ tsc T 4 ∧ tsc T 4 ≤ 10) ∧ (tsc T 0 = 0 → tnh T = 0)) ∧
  (∀ i : Int, 0 ≤ i → i < tnh T → (1 ≤ thv T 0 i ∧ thv T 0 i ≤ 9) ∧ (1 ≤ thv T 1 i ∧ thv T 1 i ≤ 99) ∧ (0 ≤ thv T 2 i ∧ thv T 2 i ≤ 999) ∧ (thv T 3 i = -2 ∨ (0 ≤ thv T 3 i ∧ thv T 3 i < tnh T ∧ thv T 3 i ≠ i)) ∧ (0 ≤ thv T 4 i ∧ thv T 4 i ≤ thv T 5 i ∧ thv T 5 i ≤ 23) ∧ (thv T 9 i = 1 ∨ (thv T 9 i = 0 ∧ thv T 4 i = 0 ∧ thv T 5 i = 23))) ∧
  (∀ i j : Int, 0 ≤ i → i < tnh T → 0 ≤ j → j < tnh T → thv T 3 i = thv T 3 j → thv T 3 i ≠ -2 → i = j) ∧
  (∀ i j : Int, 0 ≤ i → i < 7 → 0 ≤ j → j < 7 → 0 ≤ tst T i j ∧ tst T i j ≤ 99 ∧ tst T i j = tst T j i) ∧ (∀ i : Int, 0 ≤ i → i < 7 → tst T i i = 0) ∧
  (∀ p : Int, 0 ≤ p → p < tpm T → (0 ≤ thv T 7 p ∧ thv T 7 p < tnh T) ∧ (0 ≤ thv T 8 p ∧ thv T 8 p < tnh T)) ∧
  (tsc T 6 = ((tsig T).length : Int) ∧ tsc T 7 = ((tnoi T).length : Int) ∧ tsc T 6 ≤ 8 ∧ tsc T 7 ≤ 4 ∧ (tnt T).length = (tsig T).length + (tnoi T).length) ∧ (∀ q ∈ tnt T, (0 ≤ q.1 ∧ q.1 < tnh T) ∧ (q.2.1 = 0 ∨ (q.2.1 = 1 ∧ 1 ≤ q.2.2 ∧ q.2.2 ≤ 9)))
def PI (P : PT) (e : Int) : Prop := NI P ∧ TIv (pT P) e
theorem PI.o {P : PT} {e : Int} (I : PI P e) : PO P := ⟨I.1, I.2.2.2.1, I.2.2.2.2.1⟩
theorem PI.ok {P : PT} {e : Int} (I : PI P e) (h2 : 2 ≤ tnh (pT P)) : TOK (pT P) := by
  obtain ⟨-, a, b, c, d, ⟨e1, e2, e3⟩, f⟩ := I
  have : tsc (pT P) 0 ≠ 0 := fun q => by have := e3 q; omega
  exact ⟨⟨by omega, a.2⟩, b, ⟨h2, c.2⟩, d, f⟩
theorem PI.mono {P : PT} {e e' : Int} (I : PI P e) (h : e ≤ e') : PI P e' := by
  obtain ⟨N, a, b, c, d, ⟨e1, e2, e3⟩, f⟩ := I
  exact ⟨N, a, b, c, d, ⟨⟨e1.1, by omega⟩, e2, e3⟩, f⟩
theorem NI.cg {P : PT} {T : XTw} (N : NI P) (h1 : tnh T = tnh (pT P)) (h2 : tpm T = tpm (pT P)) : NI (T, P.2) := by
  obtain ⟨⟨a, b⟩, c⟩ := N
  exact ⟨⟨a.trans h1.symm, b.trans h2.symm⟩, c⟩
theorem PI.town {P : PT} {e d k : Int} (I : PI P e) (hd : 1 ≤ d ∧ d ≤ 9) (hk : 0 ≤ k ∧ k ≤ 9) : PI (scp (scp (pT P) 0 d) 1 k, P.2) e := by
  obtain ⟨N, a, b, c, d', ⟨e1, e2, e3⟩, f⟩ := I
  refine ⟨N.cg rfl rfl, ?_, hk, c, d', ⟨e1, e2, fun q => ?_⟩, f⟩
  · show 0 ≤ d ∧ d ≤ 9
    omega
  · have q : d = 0 := q
    omega
theorem PI.wrong {P : PT} {e h g : Int} (I : PI P e) (h0 : 0 ≤ h ∧ h < tnh (pT P)) (g0 : 0 ≤ g ∧ g < tnh (pT P)) (hg : g ≠ h) (nl : lentB (pT P) g ≠ true) : PI (hvp (pT P) 3 h g, P.2) e := by
  obtain ⟨N, a, b, c, d, e1, f1, f2, f3⟩ := I
  have hv : ∀ q j, ¬ (q = 3 ∧ j = h) → thv (hvp (pT P) 3 h g) q j = thv (pT P) q j := fun q j w => if_neg w
  have hvi : thv (hvp (pT P) 3 h g) 3 h = g := if_pos ⟨rfl, rfl⟩
  have nl : ∀ i : Int, 0 ≤ i → i < tnh (pT P) → thv (pT P) 3 i ≠ g := fun i i0 i1 q => nl (lentB_iff.mpr ⟨i, i0, i1, q⟩)
  refine ⟨N.cg rfl rfl, a, b, c, d, e1, fun i i0 i1 => ?_, fun i j i0 i1 j0 j1 q q2 => ?_, ?_⟩
  · show (1 ≤ thv (hvp (pT P) 3 h g) 0 i ∧ thv (hvp (pT P) 3 h g) 0 i ≤ 9) ∧ (1 ≤ thv (hvp (pT P) 3 h g) 1 i ∧ thv (hvp (pT P) 3 h g) 1 i ≤ 99) ∧ (0 ≤ thv (hvp (pT P) 3 h g) 2 i ∧ thv (hvp (pT P) 3 h g) 2 i ≤ 999) ∧ (thv (hvp (pT P) 3 h g) 3 i = -2 ∨ (0 ≤ thv (hvp (pT P) 3 h g) 3 i ∧ thv (hvp (pT P) 3 h g) 3 i < tnh (pT P) ∧ thv (hvp (pT P) 3 h g) 3 i ≠ i)) ∧ (0 ≤ thv (hvp (pT P) 3 h g) 4 i ∧ thv (hvp (pT P) 3 h g) 4 i ≤ thv (hvp (pT P) 3 h g) 5 i ∧ thv (hvp (pT P) 3 h g) 5 i ≤ 23) ∧ (thv (hvp (pT P) 3 h g) 9 i = 1 ∨ (thv (hvp (pT P) 3 h g) 9 i = 0 ∧ thv (hvp (pT P) 3 h g) 4 i = 0 ∧ thv (hvp (pT P) 3 h g) 5 i = 23))
    rw [hv 0 i (by omega), hv 1 i (by omega), hv 2 i (by omega), hv 4 i (by omega), hv 5 i (by omega), hv 9 i (by omega)]
    obtain ⟨x0, x1, x2, x3, x4⟩ := f1 i i0 i1
    refine ⟨x0, x1, x2, ?_, x4⟩
    by_cases z : i = h
    · rw [z, hvi]
      exact Or.inr ⟨g0.1, g0.2, hg⟩
    · rw [hv 3 i (fun w => z w.2)]
      exact x3
  · have q : thv (hvp (pT P) 3 h g) 3 i = thv (hvp (pT P) 3 h g) 3 j := q
    have q2 : thv (hvp (pT P) 3 h g) 3 i ≠ -2 := q2
    by_cases z : i = h
    · by_cases z2 : j = h
      · omega
      · rw [z, hvi, hv 3 j (fun w => z2 w.2)] at q
        exact absurd q.symm (nl j j0 j1)
    · rw [hv 3 i (fun w => z w.2)] at q q2
      by_cases z2 : j = h
      · rw [z2, hvi] at q
        exact absurd q (nl i i0 i1)
      · rw [hv 3 j (fun w => z2 w.2)] at q
        exact f2 i j i0 i1 j0 j1 q q2
  · obtain ⟨y1, y2, y3, y4⟩ := f3
    refine ⟨y1, y2, fun p p0 p1 => ?_, y4⟩
    show (0 ≤ thv (hvp (pT P) 3 h g) 7 p ∧ thv (hvp (pT P) 3 h g) 7 p < tnh (pT P)) ∧ (0 ≤ thv (hvp (pT P) 3 h g) 8 p ∧ thv (hvp (pT P) 3 h g) 8 p < tnh (pT P))
    rw [hv 7 p (by omega), hv 8 p (by omega)]
    exact y3 p p0 p1
theorem PI.open_ {P : PT} {e h u v : Int} (I : PI P e) (hu : 0 ≤ u ∧ u ≤ v ∧ v ≤ 23) : PI (scp (hvp (hvp (hvp (pT P) 4 h u) 5 h v) 9 h 1) 3 (tsc (pT P) 3 + 1), P.2) (e + 1) := by
  obtain ⟨N, a, b, c, d, ⟨e1, e2⟩, f1, f2, f3⟩ := I
  obtain ⟨T, hT⟩ : ∃ T, T = scp (hvp (hvp (hvp (pT P) 4 h u) 5 h v) 9 h 1) 3 (tsc (pT P) 3 + 1) := ⟨_, rfl⟩
  have hv : ∀ q j, ¬ ((q = 4 ∨ q = 5 ∨ q = 9) ∧ j = h) → thv T q j = thv (pT P) q j := fun q j w => by
    rw [hT]
    show (if q = 9 ∧ j = h then _ else if q = 5 ∧ j = h then _ else if q = 4 ∧ j = h then _ else thv (pT P) q j) = _
    rw [if_neg (by omega), if_neg (by omega), if_neg (by omega)]
  have h4 : thv T 4 h = u ∧ thv T 5 h = v ∧ thv T 9 h = 1 := by
    rw [hT]
    simp [hvp, scp, thv]
  have s : ∀ k, k ≠ 3 → tsc T k = tsc (pT P) k := fun k w => by rw [hT]; exact if_neg w
  have s3 : tsc T 3 = tsc (pT P) 3 + 1 := by rw [hT]; rfl
  have tt : T.2.2 = (pT P).2.2 := by rw [hT]; rfl
  have en : tnh T = tnh (pT P) := s 2 (by decide)
  have ep : tpm T = tpm (pT P) := s 5 (by decide)
  rw [← hT]
  clear hT
  have e_st : tst T = tst (pT P) := by unfold tst; rw [tt]
  have e_nt : tnt T = tnt (pT P) := by unfold tnt; rw [tt]
  refine ⟨N.cg en ep, ?_⟩
  show TIv T (e + 1)
  unfold TIv tsig tnoi
  rw [s 0 (by decide), s 1 (by decide), s 4 (by decide), s 6 (by decide), s 7 (by decide), s3, en, ep, e_st, e_nt]
  refine ⟨a, b, c, d, ⟨⟨by omega, by omega⟩, e2⟩, fun i i0 i1 => ?_, fun i j i0 i1 j0 j1 => ?_, ?_⟩
  · rw [hv 0 i (by omega), hv 1 i (by omega), hv 2 i (by omega), hv 3 i (by omega)]
    obtain ⟨x0, x1, x2, x3, x4, x5⟩ := f1 i i0 i1
    refine ⟨x0, x1, x2, x3, ?_⟩
    by_cases z : i = h
    · rw [z, h4.1, h4.2.1, h4.2.2]
      exact ⟨hu, Or.inl rfl⟩
    · rw [hv 4 i (by omega), hv 5 i (by omega), hv 9 i (by omega)]
      exact ⟨x4, x5⟩
  · rw [hv 3 i (by omega), hv 3 j (by omega)]
    exact f2 i j i0 i1 j0 j1
  · obtain ⟨y1, y2, y3, y4⟩ := f3
    refine ⟨y1, y2, fun p p0 p1 => ?_, y4⟩
    rw [hv 7 p (by omega), hv 8 p (by omega)]
    exact y3 p p0 p1
theorem PI.street {P : PT} {e h g m : Int} (I : PI P e) (s10 : tsc (pT P) 4 < 10) (hg : g ≠ h) (hm : 1 ≤ m ∧ m ≤ 99) : PI (scp (stp_ (stp_ (pT P) h g m) g h m) 4 (tsc (pT P) 4 + 1), P.2) e := by
  obtain ⟨N, a, b, c, d, ⟨e1, e2, e3⟩, f1, f2, y1, y2, y3⟩ := I
  have st : ∀ i j, tst (scp (stp_ (stp_ (pT P) h g m) g h m) 4 (tsc (pT P) 4 + 1)) i j = if i = g ∧ j = h then m else if i = h ∧ j = g then m else tst (pT P) i j := fun i j => rfl
  have ss : tsc (scp (stp_ (stp_ (pT P) h g m) g h m) 4 (tsc (pT P) 4 + 1)) 4 = tsc (pT P) 4 + 1 := rfl
  refine ⟨N.cg rfl rfl, a, b, c, d, ⟨e1, ?_, e3⟩, f1, f2, fun i j i0 i1 j0 j1 => ?_, fun i i0 i1 => ?_, y3⟩
  · show 0 ≤ tsc (scp (stp_ (stp_ (pT P) h g m) g h m) 4 (tsc (pT P) 4 + 1)) 4 ∧ tsc (scp (stp_ (stp_ (pT P) h g m) g h m) 4 (tsc (pT P) 4 + 1)) 4 ≤ 10
    rw [ss]
    omega
  · show 0 ≤ tst (scp (stp_ (stp_ (pT P) h g m) g h m) 4 (tsc (pT P) 4 + 1)) i j ∧ tst (scp (stp_ (stp_ (pT P) h g m) g h m) 4 (tsc (pT P) 4 + 1)) i j ≤ 99 ∧ tst (scp (stp_ (stp_ (pT P) h g m) g h m) 4 (tsc (pT P) 4 + 1)) i j = tst (scp (stp_ (stp_ (pT P) h g m) g h m) 4 (tsc (pT P) 4 + 1)) j i
    rw [st, st]
    have := y1 i j i0 i1 j0 j1
    repeat' split
    all_goals omega
  · show tst (scp (stp_ (stp_ (pT P) h g m) g h m) 4 (tsc (pT P) 4 + 1)) i i = 0
    rw [st, if_neg (by omega), if_neg (by omega)]
    exact y2 i i0 i1
theorem pFind_no {P : PT} {w : List Int} (h : pFind P w = none) : ∀ q ∈ pN P, q.1 ≠ w := fun q hq e => by
  have := List.find?_eq_none.mp h q hq
  exact this (decide_eq_true e)
theorem getE_l {α : Type} {l : List α} {a b : α} {i : Nat} (h : l[i]? = some b) : (l ++ [a])[i]? = some b := by
  rw [List.getElem?_append_left (List.getElem?_eq_some_iff.mp h).1]
  exact h
theorem getE_r {α : Type} {l : List α} {a : α} : (l ++ [a])[l.length]? = some a := by
  rw [List.getElem?_append_right (Nat.le_refl _), Nat.sub_self]
  rfl
theorem NI.house {P : PT} {w sm : List Int} {r t b : Int} (N : NI P) (xw : xword w) (fr : pFind P w = none) : NI (addH P w r t b sm) := by
  have no := pFind_no fr
  obtain ⟨⟨a, b'⟩, c, d, e, f⟩ := N
  refine ⟨⟨?_, b'⟩, fun i v hv => ?_, fun i v hv => ?_, fun q hq => ?_, fun q hq q' hq' e' => ?_⟩
  · show (((pH P ++ [w]).length : Nat) : Int) = tnh (pT P) + 1
    rw [List.length_append]
    show (((pH P).length + 1 : Nat) : Int) = _
    omega
  · rcases getE_app (show (pH P ++ [w])[i]? = some v from hv) with ⟨lt, q⟩ | ⟨q, rfl⟩
    · exact ⟨(c i v q).1, List.mem_append_left _ (c i v q).2⟩
    · refine ⟨xw, List.mem_append_right _ ?_⟩
      rw [show ((i : Nat) : Int) = tnh (pT P) by omega]
      exact List.mem_singleton.mpr rfl
  · exact ⟨(d i v hv).1, List.mem_append_left _ (d i v hv).2⟩
  · rcases List.mem_append.mp (show q ∈ pN P ++ [(w, 0, tnh (pT P))] from hq) with h | h
    · rcases e q h with ⟨e0, i, e1, e2⟩ | ⟨e0, i, e1, e2⟩
      · exact Or.inl ⟨e0, i, e1, getE_l e2⟩
      · exact Or.inr ⟨e0, i, e1, e2⟩
    · rw [List.mem_singleton.mp h]
      exact Or.inl ⟨rfl, (pH P).length, a.symm, getE_r⟩
  · rcases List.mem_append.mp (show q ∈ pN P ++ [(w, 0, tnh (pT P))] from hq) with h | h
    · rcases List.mem_append.mp (show q' ∈ pN P ++ [(w, 0, tnh (pT P))] from hq') with h' | h'
      · exact f q h q' h' e'
      · rw [List.mem_singleton.mp h'] at e'
        exact absurd e' (no q h)
    · rw [List.mem_singleton.mp h] at e' ⊢
      rcases List.mem_append.mp (show q' ∈ pN P ++ [(w, 0, tnh (pT P))] from hq') with h' | h'
      · exact absurd e'.symm (no q' h')
      · rw [List.mem_singleton.mp h']
theorem NI.person {P : PT} {w : List Int} {h a' : Int} (N : NI P) (xw : xword w) (fr : pFind P w = none) : NI (addP P w h a') := by
  have no := pFind_no fr
  obtain ⟨⟨a, b'⟩, c, d, e, f⟩ := N
  refine ⟨⟨a, ?_⟩, fun i v hv => ?_, fun i v hv => ?_, fun q hq => ?_, fun q hq q' hq' e' => ?_⟩
  · show (((pP P ++ [w]).length : Nat) : Int) = tpm (pT P) + 1
    rw [List.length_append]
    show (((pP P).length + 1 : Nat) : Int) = _
    omega
  · exact ⟨(c i v hv).1, List.mem_append_left _ (c i v hv).2⟩
  · rcases getE_app (show (pP P ++ [w])[i]? = some v from hv) with ⟨lt, q⟩ | ⟨q, rfl⟩
    · exact ⟨(d i v q).1, List.mem_append_left _ (d i v q).2⟩
    · refine ⟨xw, List.mem_append_right _ ?_⟩
      rw [show ((i : Nat) : Int) = tpm (pT P) by omega]
      exact List.mem_singleton.mpr rfl
  · rcases List.mem_append.mp (show q ∈ pN P ++ [(w, 1, tpm (pT P))] from hq) with h | h
    · rcases e q h with ⟨e0, i, e1, e2⟩ | ⟨e0, i, e1, e2⟩
      · exact Or.inl ⟨e0, i, e1, e2⟩
      · exact Or.inr ⟨e0, i, e1, getE_l e2⟩
    · rw [List.mem_singleton.mp h]
      exact Or.inr ⟨rfl, (pP P).length, b'.symm, getE_r⟩
  · rcases List.mem_append.mp (show q ∈ pN P ++ [(w, 1, tpm (pT P))] from hq) with h | h
    · rcases List.mem_append.mp (show q' ∈ pN P ++ [(w, 1, tpm (pT P))] from hq') with h' | h'
      · exact f q h q' h' e'
      · rw [List.mem_singleton.mp h'] at e'
        exact absurd e' (no q h)
    · rw [List.mem_singleton.mp h] at e' ⊢
      rcases List.mem_append.mp (show q' ∈ pN P ++ [(w, 1, tpm (pT P))] from hq') with h' | h'
      · exact absurd e'.symm (no q' h')
      · rw [List.mem_singleton.mp h']
theorem PI.house {P : PT} {e r t b : Int} {w sm : List Int} (I : PI P e) (n7 : tnh (pT P) < 7) (told : tsc (pT P) 0 ≠ 0) (xw : xword w) (fr : pFind P w = none) (hr : 1 ≤ r ∧ r ≤ 9) (ht : 1 ≤ t ∧ t ≤ 99) (hb : 0 ≤ b ∧ b ≤ 999) : PI (addH P w r t b sm) e := by
  obtain ⟨N, a, b', c, d, ⟨e1, e2, e3⟩, f1, f2, y1, y2, y3, y4, y5⟩ := I
  refine ⟨N.house xw fr, ?_⟩
  have hv := @addH_hv P w sm r t b
  obtain ⟨⟨v0, v1, v2, v3⟩, v4, v5, v6, v9⟩ := addH_n (P := P) (w := w) (sm := sm) (r := r) (t := t) (b := b)
  obtain ⟨n, hn⟩ : ∃ n, n = tnh (pT P) := ⟨_, rfl⟩
  have en : tnh (pT (addH P w r t b sm)) = n + 1 := by rw [hn]; rfl
  have s : ∀ k, k ≠ 2 → tsc (pT (addH P w r t b sm)) k = tsc (pT P) k := fun k w' => if_neg w'
  have ep : tpm (pT (addH P w r t b sm)) = tpm (pT P) := rfl
  have e_st : tst (pT (addH P w r t b sm)) = tst (pT P) := rfl
  have e_nt : tnt (pT (addH P w r t b sm)) = tnt (pT P) := rfl
  rw [← hn] at v0 v1 v2 v3 v4 v5 v6 v9 hv n7 c f1 f2 y3 y5
  generalize pT (addH P w r t b sm) = T at *
  unfold TIv tsig tnoi
  rw [s 0 (by decide), s 1 (by decide), s 3 (by decide), s 4 (by decide), s 6 (by decide), s 7 (by decide), en, ep, e_st, e_nt]
  refine ⟨a, b', ⟨by omega, by omega⟩, d, ⟨e1, e2, fun q => absurd q told⟩, fun i i0 i1 => ?_, fun i j i0 i1 j0 j1 q q2 => ?_, y1, y2, fun p p0 p1 => ?_, y4, fun q hq => ?_⟩
  · by_cases z : i = n
    · rw [z, v0, v1, v2, v3, v4, v5, v9]
      exact ⟨hr, ht, hb, Or.inl rfl, by decide, Or.inr ⟨rfl, rfl, rfl⟩⟩
    · rw [hv (Or.inl z), hv (Or.inl z), hv (Or.inl z), hv (Or.inl z), hv (Or.inl z), hv (Or.inl z), hv (Or.inl z)]
      obtain ⟨x0, x1, x2, x3, x4⟩ := f1 i i0 (by omega)
      exact ⟨x0, x1, x2, by omega, x4⟩
  · by_cases z : i = n
    · rw [z, v3] at q2
      exact absurd rfl q2
    · rw [hv (Or.inl z)] at q q2
      by_cases z2 : j = n
      · rw [z2, v3] at q
        exact absurd q q2
      · rw [hv (Or.inl z2)] at q
        exact f2 i j i0 (by omega) j0 (by omega) q q2
  · rw [hv (Or.inr (Or.inl rfl)), hv (Or.inr (Or.inr rfl))]
    have := y3 p p0 p1
    omega
  · have := y5 q hq
    omega
theorem PI.person {P : PT} {e hm at_ : Int} {w : List Int} (I : PI P e) (n4 : tpm (pT P) < 4) (xw : xword w) (fr : pFind P w = none) (hh : 0 ≤ hm ∧ hm < tnh (pT P)) (ha : 0 ≤ at_ ∧ at_ < tnh (pT P)) : PI (addP P w hm at_) e := by
  obtain ⟨N, a, b', c, d, ⟨e1, e2, e3⟩, f1, f2, y1, y2, y3, y4, y5⟩ := I
  refine ⟨N.person xw fr, ?_⟩
  have hv := @addP_hv P w hm at_
  obtain ⟨v7, v8⟩ := addP_n (P := P) (w := w) (hm := hm) (at_ := at_)
  obtain ⟨n, hn⟩ : ∃ n, n = tpm (pT P) := ⟨_, rfl⟩
  have ep : tpm (pT (addP P w hm at_)) = n + 1 := by rw [hn]; rfl
  have s : ∀ k, k ≠ 5 → tsc (pT (addP P w hm at_)) k = tsc (pT P) k := fun k w' => if_neg w'
  have en : tnh (pT (addP P w hm at_)) = tnh (pT P) := rfl
  have e_st : tst (pT (addP P w hm at_)) = tst (pT P) := rfl
  have e_nt : tnt (pT (addP P w hm at_)) = tnt (pT P) := rfl
  rw [← hn] at v7 v8 hv n4 d y3
  generalize pT (addP P w hm at_) = T at *
  unfold TIv tsig tnoi
  rw [s 0 (by decide), s 1 (by decide), s 3 (by decide), s 4 (by decide), s 6 (by decide), s 7 (by decide), en, ep, e_st, e_nt]
  refine ⟨a, b', c, ⟨by omega, by omega⟩, ⟨e1, e2, e3⟩, fun i i0 i1 => ?_, fun i j i0 i1 j0 j1 => ?_, y1, y2, fun p p0 p1 => ?_, y4, y5⟩
  · rw [hv (by omega), hv (by omega), hv (by omega), hv (by omega), hv (by omega), hv (by omega), hv (by omega)]
    exact f1 i i0 i1
  · rw [hv (by omega), hv (by omega)]
    exact f2 i j i0 i1 j0 j1
  · by_cases z : p = n
    · rw [z, v7, v8]
      exact ⟨hh, ha⟩
    · rw [hv (by omega), hv (by omega)]
      exact y3 p p0 (by omega)
theorem PI.note {P : PT} {e : Int} {q : Int × Int × Int} {kk : Nat} (I : PI P e) (hq : 0 ≤ q.1 ∧ q.1 < tnh (pT P)) (hk : (kk = 6 ∧ q.2.1 = 0 ∧ tsc (pT P) 6 < 8) ∨ (kk = 7 ∧ (q.2.1 = 1 ∧ 1 ≤ q.2.2 ∧ q.2.2 ≤ 9) ∧ tsc (pT P) 7 < 4)) : PI (scp (ntp (pT P) q) kk (tsc (pT P) kk + 1), P.2) e := by
  obtain ⟨N, a, b', c, d, ⟨e1, e2, e3⟩, f1, f2, y1, y2, y3, ⟨z1, z2, z3, z4, z5⟩, y5⟩ := I
  obtain ⟨T, hT⟩ : ∃ T, T = scp (ntp (pT P) q) kk (tsc (pT P) kk + 1) := ⟨_, rfl⟩
  have s : ∀ k, k ≠ kk → tsc T k = tsc (pT P) k := fun k w' => by rw [hT]; exact if_neg w'
  have sk : tsc T kk = tsc (pT P) kk + 1 := by rw [hT]; exact if_pos rfl
  have en : tnh T = tnh (pT P) := s 2 (by omega)
  have ep : tpm T = tpm (pT P) := s 5 (by omega)
  have e_hv : thv T = thv (pT P) := by rw [hT]; rfl
  have e_st : tst T = tst (pT P) := by rw [hT]; rfl
  have e_nt : tnt T = tnt (pT P) ++ [q] := by rw [hT]; rfl
  rw [← hT]
  clear hT
  refine ⟨N.cg en ep, ?_⟩
  show TIv T e
  have fs : (tsig T).length = (tsig (pT P)).length + (if q.2.1 = 0 then 1 else 0) ∧ (tnoi T).length = (tnoi (pT P)).length + (if q.2.1 = 1 then 1 else 0) := by
    unfold tsig tnoi
    rw [e_nt, List.filter_append, List.filter_append, List.length_append, List.length_append]
    refine ⟨?_, ?_⟩
    · by_cases z : q.2.1 = 0
      · simp [z]
      · simp [z]
    · by_cases z : q.2.1 = 1
      · simp [z]
      · simp [z]
  unfold TIv
  rw [s 0 (by omega), s 1 (by omega), s 3 (by omega), s 4 (by omega), en, ep, e_st, e_nt, e_hv, fs.1, fs.2]
  refine ⟨a, b', c, d, ⟨e1, e2, e3⟩, f1, f2, y1, y2, y3, ?_, fun q' hq' => ?_⟩
  · rw [List.length_append]
    show _ ∧ _ ∧ _ ∧ _ ∧ (tnt (pT P)).length + 1 = _
    rcases hk with ⟨rfl, k1, k2⟩ | ⟨rfl, ⟨k1, -⟩, k2⟩
    · rw [sk, s 7 (by decide), if_pos k1, if_neg (by omega)]
      omega
    · rw [sk, s 6 (by decide), if_neg (by omega), if_pos k1]
      omega
  · rcases List.mem_append.mp hq' with h | h
    · exact y5 q' h
    · rw [List.mem_singleton.mp h]
      exact ⟨hq, by omega⟩
theorem PI.first {e : Int} (he : 0 ≤ e) : PI pt0 e := by
  refine ⟨⟨⟨rfl, rfl⟩, fun i w h => by simp [pt0, pH] at h, fun i w h => by simp [pt0, pP] at h, fun q h => by simp [pt0, pN] at h, fun q h => by simp [pt0, pN] at h⟩, ?_⟩
  have z : ∀ k, tsc (pT pt0) k = 0 := fun k => rfl
  have st : ∀ i j, tst (pT pt0) i j = 0 := fun i j => rfl
  unfold TIv
  simp only [z, st]
  refine ⟨by decide, by decide, by decide, by decide, ⟨⟨by decide, he⟩, by decide, fun _ => trivial⟩, fun i i0 i1 => by omega, fun i j i0 i1 => by omega, fun i j _ _ _ _ => by decide, fun _ _ _ => trivial, fun p p0 p1 => by omega, ⟨rfl, rfl, by decide, by decide, rfl⟩, fun q hq => by cases hq⟩
