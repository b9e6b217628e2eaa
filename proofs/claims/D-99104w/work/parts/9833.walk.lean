/-! WALKS, 72: the town that is read grows, in WrongRoom -/
set_option maxRecDepth 100000
set_option maxHeartbeats 4000000
theorem addH_hv {P : PT} {w sm : List Int} {r t b : Int} {q : Nat} {j : Int} (h : j ≠ tnh (pT P) ∨ q = 7 ∨ q = 8) : thv (pT (addH P w r t b sm)) q j = thv (pT P) q j := by
  have : ∀ k : Nat, k ≠ 7 → k ≠ 8 → ¬ (q = k ∧ j = tnh (pT P)) := fun k k7 k8 e => by omega
  show (if q = 9 ∧ j = tnh (pT P) then _ else if q = 6 ∧ j = tnh (pT P) then _ else if q = 5 ∧ j = tnh (pT P) then _ else if q = 4 ∧ j = tnh (pT P) then _ else if q = 3 ∧ j = tnh (pT P) then _ else if q = 2 ∧ j = tnh (pT P) then _ else if q = 1 ∧ j = tnh (pT P) then _ else if q = 0 ∧ j = tnh (pT P) then _ else thv (pT P) q j) = _
  rw [if_neg (this 9 (by decide) (by decide)), if_neg (this 6 (by decide) (by decide)), if_neg (this 5 (by decide) (by decide)), if_neg (this 4 (by decide) (by decide)), if_neg (this 3 (by decide) (by decide)), if_neg (this 2 (by decide) (by decide)), if_neg (this 1 (by decide) (by decide)), if_neg (this 0 (by decide) (by decide))]
theorem addH_n {P : PT} {w sm : List Int} {r t b : Int} : (thv (pT (addH P w r t b sm)) 0 (tnh (pT P)) = r ∧ thv (pT (addH P w r t b sm)) 1 (tnh (pT P)) = t ∧ thv (pT (addH P w r t b sm)) 2 (tnh (pT P)) = b ∧ thv (pT (addH P w r t b sm)) 3 (tnh (pT P)) = -2) ∧ thv (pT (addH P w r t b sm)) 4 (tnh (pT P)) = 0 ∧ thv (pT (addH P w r t b sm)) 5 (tnh (pT P)) = 23 ∧ thv (pT (addH P w r t b sm)) 6 (tnh (pT P)) = xpack sm ∧ thv (pT (addH P w r t b sm)) 9 (tnh (pT P)) = 0 := by
  simp [addH, hvp, scp, thv, pT]
theorem addH_sc {P : PT} {w sm : List Int} {r t b : Int} {q : Nat} : tsc (pT (addH P w r t b sm)) q = if q = 2 then tnh (pT P) + 1 else tsc (pT P) q := rfl
theorem getE_app {α : Type} {l : List α} {a b : α} {i : Nat} (h : (l ++ [a])[i]? = some b) : (i < l.length ∧ l[i]? = some b) ∨ (i = l.length ∧ b = a) := by
  have lt := (List.getElem?_eq_some_iff.mp h).1
  rw [List.length_append] at lt
  have lt : i < l.length + 1 := lt
  by_cases c : i < l.length
  · rw [List.getElem?_append_left c] at h
    exact Or.inl ⟨c, h⟩
  · have e : i = l.length := by omega
    subst e
    rw [List.getElem?_append_right (Nat.le_refl _), Nat.sub_self] at h
    cases h
    exact Or.inr ⟨rfl, rfl⟩
/-- a house more -/
theorem XTn.addHs {z0 t a r rt b : Int} {h : XH} {P : PT} {w sm : List Int} (X : XTn z0 h t P) (N : NI P) (n7 : 0 ≤ tnh (pT P) ∧ tnh (pT P) < 7) (ca : CellX h z0 a (true, 11, none)) (f : (xfl h a 118 = tnh (pT P) ∧ xfl h a 120 = r ∧ xfl h a 121 = rt ∧ xfl h a 122 = b) ∧ xfl h a 123 = 0 ∧ xfl h a 124 = 23 ∧ xfl h a 125 = -2 ∧ xfl h a 126 = 0 ∧ xfl h a 127 = 0) (wN : StrX h z0 (xfl h a 117) w) (sS : StrX h z0 (xfl h a 119) sm) (xs : xword sm) (no : ∀ i : Int, 0 ≤ i → i < tnh (pT P) → thv (pT P) 3 i ≠ tnh (pT P)) : XTn z0 (xputf (xputa h (xfl h t 105) (tnh (pT P)) a) t 111 (tnh (pT P) + 1)) t (addH P w r rt b sm) := by
  obtain ⟨T, hH, hP, fl⟩ := X
  obtain ⟨n, hn⟩ : ∃ n, n = tnh (pT P) := ⟨_, rfl⟩
  obtain ⟨t0, ⟨a5, a6, a7, a8⟩, sc, H, Pp, Nt, St⟩ := T
  obtain ⟨c, hc⟩ : ∃ c, c = xfl h t 105 := ⟨_, rfl⟩
  obtain ⟨h', hh⟩ : ∃ h', h' = xputf (xputa h c n a) t 111 (n + 1) := ⟨_, rfl⟩
  have tc : xty h c = some (true, 5, some 7) := by rw [hc]; exact a5.2.2
  have G : Agr (fun _ f' => f' ≠ 111) (fun z => xty h z ≠ some (true, 5, some 7)) h h' := by
    rw [hh]
    refine XFr.agr (((XFr.refl h).puta (W := fun z f' => z = t ∧ f' = 111) (A := fun z => z = c) (Or.inr rfl)).putf (Or.inr ⟨rfl, rfl⟩)) (fun z f' w e => by omega) (fun z w e => ?_)
    have e : z = c := e
    rw [e, tc] at w
    rcases w with w | ⟨m, w⟩
    · exact w rfl
    · cases w
  have flr : ∀ z f, f ≠ 111 → xfl h' z f = xfl h z f := fun z f w => by rw [hh, xfl_putf, if_neg (fun e => w e.2)]; rfl
  have f111 : xfl h' t 111 = n + 1 := by rw [hh, xfl_putf, if_pos ⟨rfl, rfl⟩]
  have arr : ∀ z x, z ≠ c → xar h' z x = xar h z x := fun z x w => by rw [hh]; show (if z = c ∧ x = n then a else xar h z x) = _; rw [if_neg (fun e => w e.1)]
  have arc : ∀ x, xar h' c x = if x = n then a else xar h c x := fun x => by
    rw [hh]
    show (if c = c ∧ x = n then a else xar h c x) = _
    by_cases q : x = n
    · rw [if_pos ⟨rfl, q⟩, if_pos q]
    · rw [if_neg (fun w => q w.2), if_neg q]
  rw [← hn, ← hc, ← hh]
  clear hh
  have ne : ∀ z e m, xty h z = some (true, e, some m) → e ≠ 5 → z ≠ c := fun z e n q q2 w => by
    rw [w, tc] at q
    cases q
    exact q2 rfl
  have r6 : ∀ x, xar h' (xfl h t 106) x = xar h (xfl h t 106) x := fun x => arr _ x (ne _ _ _ a6.2.2 (by decide))
  have r7 : ∀ x, xar h' (xfl h t 107) x = xar h (xfl h t 107) x := fun x => arr _ x (ne _ _ _ a7.2.2 (by decide))
  have r8 : ∀ x, xar h' (xfl h t 108) x = xar h (xfl h t 108) x := fun x => arr _ x (ne _ _ _ a8.2.2 (by decide))
  have hv : ∀ q j, j ≠ n ∨ q = 7 ∨ q = 8 → thv (pT (addH P w r rt b sm)) q j = thv (pT P) q j := fun q j w => addH_hv (by rw [← hn]; exact w)
  obtain ⟨⟨v0, v1, v2, v3⟩, v4, v5, v6, v9⟩ := addH_n (P := P) (w := w) (sm := sm) (r := r) (t := rt) (b := b)
  have en : tnh (pT (addH P w r rt b sm)) = n + 1 := by rw [hn]; rfl
  have ep : tpm (pT (addH P w r rt b sm)) = tpm (pT P) := rfl
  rw [← hn] at v0 v1 v2 v3 v4 v5 v6 v9 f no n7 H fl
  unfold XTn TownX
  rw [flr t 105 (by decide), flr t 106 (by decide), flr t 107 (by decide), flr t 108 (by decide), flr t 109 (by decide), flr t 110 (by decide), flr t 112 (by decide), flr t 113 (by decide), flr t 114 (by decide), flr t 115 (by decide), flr t 116 (by decide), ← hc, en, ep]
  simp only [r6, r7, r8]
  rw [← hc] at H hH fl a5
  have HN : HouseX h' z0 (pT (addH P w r rt b sm)) a n := by
    refine ⟨ca.g G, ⟨(flr _ _ (by decide)).trans f.1.1, (flr _ _ (by decide)).trans (f.1.2.1.trans v0.symm), (flr _ _ (by decide)).trans (f.1.2.2.1.trans v1.symm), (flr _ _ (by decide)).trans (f.1.2.2.2.trans v2.symm), (flr _ _ (by decide)).trans (f.2.1.trans v4.symm), (flr _ _ (by decide)).trans (f.2.2.1.trans v5.symm), (flr _ _ (by decide)).trans (f.2.2.2.1.trans v3.symm)⟩, sm, xs, v6.symm, ?_⟩
    rw [flr _ 119 (by decide)]
    exact sS.g G
  refine ⟨⟨t0.g G, ⟨a5.g G, a6.g G, a7.g G, a8.g G⟩, ?_, fun j h0 h1 => ?_, fun j h0 h1 => (PersX.g G (Pp j h0 h1) ⟨by decide, by decide⟩).cg (hv _ _ (by omega)) (hv _ _ (by omega)), fun k q hk' => (Nt k q hk').g G (fun f' hf => by omega), St⟩, fun j v hj => ?_, fun j v hj => ?_, fun j h0 h1 => ?_⟩
  · obtain ⟨s0, s1, s2, s3, s4, s5, s6, s7⟩ := sc
    exact ⟨s0, s1, f111.trans en.symm, s3, s4, s5, s6, s7⟩
  · rw [arc]
    by_cases q : j = n
    · rw [if_pos q, q]
      exact HN
    · rw [if_neg q]
      exact (HouseX.g G (H j h0 (by omega)) (fun f' hf => by omega)).cg (fun q' _ => hv q' j (Or.inl q))
  · have l := N.1.1
    rw [← hn] at l
    rcases getE_app (show (pH P ++ [w])[j]? = some v from hj) with ⟨lt, e⟩ | ⟨e, rfl⟩
    · rw [arc, if_neg (by omega), flr _ 117 (by decide)]
      exact (hH j v e).g G
    · rw [arc, if_pos (by omega), flr _ 117 (by decide)]
      exact wN.g G
  · rw [flr _ 117 (by decide)]
    exact (hP j v hj).g G
  · rw [arc]
    have lb : lentB (pT (addH P w r rt b sm)) j = lentB (pT P) j ∨ j = n := by
      by_cases q : j = n
      · exact Or.inr q
      · refine Or.inl (Bool.eq_iff_iff.mpr ?_)
        rw [lentB_iff, lentB_iff]
        unfold lentT
        rw [en, ← hn]
        constructor
        · rintro ⟨x, x0, x1, e⟩
          by_cases q2 : x = n
          · rw [q2, v3] at e
            omega
          · rw [hv 3 x (Or.inl q2)] at e
            exact ⟨x, x0, by omega, e⟩
        · rintro ⟨x, x0, x1, e⟩
          exact ⟨x, x0, by omega, by rw [hv 3 x (Or.inl (by omega))]; exact e⟩
    by_cases q : j = n
    · rw [if_pos q, flr _ 126 (by decide), flr _ 127 (by decide), q]
      refine ⟨f.2.2.2.2.1.trans v9.symm, ?_⟩
      rw [if_neg (fun e => ?_)]
      · exact f.2.2.2.2.2
      · rw [lentB_iff] at e
        obtain ⟨x, x0, x1, e⟩ := e
        by_cases q2 : x = n
        · rw [q2, v3] at e
          omega
        · rw [hv 3 x (Or.inl q2)] at e
          exact no x x0 (by omega) e
    · rw [if_neg q, flr _ 126 (by decide), flr _ 127 (by decide), hv 9 j (Or.inl q)]
      rcases lb with lb | lb
      · rw [lb]
        exact fl j h0 (by omega)
      · exact absurd lb q
def addP (P : PT) (w : List Int) (h a : Int) : PT := (scp (hvp (hvp (pT P) 7 (tpm (pT P)) h) 8 (tpm (pT P)) a) 5 (tpm (pT P) + 1), pH P, pP P ++ [w], pN P ++ [(w, 1, tpm (pT P))])
theorem addP_hv {P : PT} {w : List Int} {hm at_ : Int} {q : Nat} {j : Int} (h : ¬ ((q = 7 ∨ q = 8) ∧ j = tpm (pT P))) : thv (pT (addP P w hm at_)) q j = thv (pT P) q j := by
  show (if q = 8 ∧ j = tpm (pT P) then _ else if q = 7 ∧ j = tpm (pT P) then _ else thv (pT P) q j) = _
  rw [if_neg (fun e => h ⟨Or.inr e.1, e.2⟩), if_neg (fun e => h ⟨Or.inl e.1, e.2⟩)]
theorem addP_n {P : PT} {w : List Int} {hm at_ : Int} : thv (pT (addP P w hm at_)) 7 (tpm (pT P)) = hm ∧ thv (pT (addP P w hm at_)) 8 (tpm (pT P)) = at_ := by
  simp [addP, hvp, scp, thv, pT]
/-- a person more -/
theorem XTn.addPs {z0 t a hm at_ : Int} {h : XH} {P : PT} {w : List Int} (X : XTn z0 h t P) (N : NI P) (n4 : 0 ≤ tpm (pT P) ∧ tpm (pT P) < 4) (ca : CellX h z0 a (true, 12, none)) (f : xfl h a 128 = hm ∧ xfl h a 129 = at_) (wN : StrX h z0 (xfl h a 117) w) : XTn z0 (xputf (xputa h (xfl h t 106) (tpm (pT P)) a) t 114 (tpm (pT P) + 1)) t (addP P w hm at_) := by
  obtain ⟨T, hH, hP, fl⟩ := X
  obtain ⟨n, hn⟩ : ∃ n, n = tpm (pT P) := ⟨_, rfl⟩
  obtain ⟨t0, ⟨a5, a6, a7, a8⟩, sc, H, Pp, Nt, St⟩ := T
  obtain ⟨c, hc⟩ : ∃ c, c = xfl h t 106 := ⟨_, rfl⟩
  obtain ⟨h', hh⟩ : ∃ h', h' = xputf (xputa h c n a) t 114 (n + 1) := ⟨_, rfl⟩
  have tc : xty h c = some (true, 6, some 4) := by rw [hc]; exact a6.2.2
  have G : Agr (fun _ f' => f' ≠ 114) (fun z => xty h z ≠ some (true, 6, some 4)) h h' := by
    rw [hh]
    refine XFr.agr (((XFr.refl h).puta (W := fun z f' => z = t ∧ f' = 114) (A := fun z => z = c) (Or.inr rfl)).putf (Or.inr ⟨rfl, rfl⟩)) (fun z f' w e => by omega) (fun z w e => ?_)
    have e : z = c := e
    rw [e, tc] at w
    rcases w with w | ⟨m, w⟩
    · exact w rfl
    · cases w
  have flr : ∀ z f, f ≠ 114 → xfl h' z f = xfl h z f := fun z f w => by rw [hh, xfl_putf, if_neg (fun e => w e.2)]; rfl
  have f114 : xfl h' t 114 = n + 1 := by rw [hh, xfl_putf, if_pos ⟨rfl, rfl⟩]
  have arr : ∀ z x, z ≠ c → xar h' z x = xar h z x := fun z x w => by rw [hh]; show (if z = c ∧ x = n then a else xar h z x) = _; rw [if_neg (fun e => w e.1)]
  have arc : ∀ x, xar h' c x = if x = n then a else xar h c x := fun x => by
    rw [hh]
    show (if c = c ∧ x = n then a else xar h c x) = _
    by_cases q : x = n
    · rw [if_pos ⟨rfl, q⟩, if_pos q]
    · rw [if_neg (fun w => q w.2), if_neg q]
  rw [← hn, ← hc, ← hh]
  clear hh
  have ne : ∀ z e m, xty h z = some (true, e, some m) → e ≠ 6 → z ≠ c := fun z e n q q2 w => by
    rw [w, tc] at q
    cases q
    exact q2 rfl
  have r5 : ∀ x, xar h' (xfl h t 105) x = xar h (xfl h t 105) x := fun x => arr _ x (ne _ _ _ a5.2.2 (by decide))
  have r7 : ∀ x, xar h' (xfl h t 107) x = xar h (xfl h t 107) x := fun x => arr _ x (ne _ _ _ a7.2.2 (by decide))
  have r8 : ∀ x, xar h' (xfl h t 108) x = xar h (xfl h t 108) x := fun x => arr _ x (ne _ _ _ a8.2.2 (by decide))
  have hv : ∀ q j, ¬ ((q = 7 ∨ q = 8) ∧ j = n) → thv (pT (addP P w hm at_)) q j = thv (pT P) q j := fun q j w => addP_hv (by rw [← hn]; exact w)
  obtain ⟨v7, v8⟩ := addP_n (P := P) (w := w) (hm := hm) (at_ := at_)
  have ep : tpm (pT (addP P w hm at_)) = n + 1 := by rw [hn]; rfl
  have en : tnh (pT (addP P w hm at_)) = tnh (pT P) := rfl
  rw [← hn] at v7 v8 n4 Pp
  unfold XTn TownX
  rw [flr t 105 (by decide), flr t 106 (by decide), flr t 107 (by decide), flr t 108 (by decide), flr t 109 (by decide), flr t 110 (by decide), flr t 111 (by decide), flr t 112 (by decide), flr t 113 (by decide), flr t 115 (by decide), flr t 116 (by decide), ← hc, en, ep]
  simp only [r5, r7, r8]
  rw [← hc] at Pp hP a6
  have HN : PersX h' z0 (pT (addP P w hm at_)) a n := ⟨ca.g G, (flr _ _ (by decide)).trans (f.1.trans v7.symm), (flr _ _ (by decide)).trans (f.2.trans v8.symm)⟩
  refine ⟨⟨t0.g G, ⟨a5.g G, a6.g G, a7.g G, a8.g G⟩, ?_, fun j h0 h1 => (HouseX.g G (H j h0 h1) (fun f' hf => by omega)).cg (fun q' hq => hv q' j (by omega)), fun j h0 h1 => ?_, fun k q hk' => (Nt k q hk').g G (fun f' hf => by omega), St⟩, fun j v hj => ?_, fun j v hj => ?_, fun j h0 h1 => ?_⟩
  · obtain ⟨s0, s1, s2, s3, s4, s5, s6, s7⟩ := sc
    exact ⟨s0, s1, s2, s3, s4, f114.trans ep.symm, s6, s7⟩
  · rw [arc]
    by_cases q : j = n
    · rw [if_pos q, q]
      exact HN
    · rw [if_neg q]
      exact (PersX.g G (Pp j h0 (by omega)) ⟨by decide, by decide⟩).cg (hv _ _ (by omega)) (hv _ _ (by omega))
  · rw [flr _ 117 (by decide)]
    exact (hH j v hj).g G
  · have l := N.1.2
    rw [← hn] at l
    rcases getE_app (show (pP P ++ [w])[j]? = some v from hj) with ⟨lt, e⟩ | ⟨e, rfl⟩
    · rw [arc, if_neg (by omega), flr _ 117 (by decide)]
      exact (hP j v e).g G
    · rw [arc, if_pos (by omega), flr _ 117 (by decide)]
      exact wN.g G
  · have lb : lentB (pT (addP P w hm at_)) j = lentB (pT P) j := by
      unfold lentB
      rw [en]
      congr 1
    rw [lb, flr _ 126 (by decide), flr _ 127 (by decide), hv 9 j (by omega)]
    exact fl j h0 h1
/-- something noticed more -/
theorem XTn.addN {z0 t a k n : Int} {h : XH} {P : PT} {q : Int × Int × Int} {kk f : Nat} (X : XTn z0 h t P) (N : NI P) (hk : (kk = 6 ∧ f = 115) ∨ (kk = 7 ∧ f = 116)) (hn : n = xfl h t f + 1) (hk2 : k = ((tnt (pT P)).length : Int)) (wN : NoteX h z0 a q) : XTn z0 (xputf (xputa h (xfl h t 107) k a) t f n) t (scp (ntp (pT P) q) kk (tsc (pT P) kk + 1), P.2) := by
  obtain ⟨T, hH, hP, fl⟩ := X
  obtain ⟨t0, ⟨a5, a6, a7, a8⟩, sc, H, Pp, Nt, St⟩ := T
  obtain ⟨c, hc⟩ : ∃ c, c = xfl h t 107 := ⟨_, rfl⟩
  obtain ⟨h', hh⟩ : ∃ h', h' = xputf (xputa h c k a) t f n := ⟨_, rfl⟩
  have tc : xty h c = some (true, 7, some 12) := by rw [hc]; exact a7.2.2
  have G : Agr (fun _ f' => f' ≠ f) (fun z => xty h z ≠ some (true, 7, some 12)) h h' := by
    rw [hh]
    refine XFr.agr (((XFr.refl h).puta (W := fun z f' => z = t ∧ f' = f) (A := fun z => z = c) (Or.inr rfl)).putf (Or.inr ⟨rfl, rfl⟩)) (fun z f' w e => by omega) (fun z w e => ?_)
    have e : z = c := e
    rw [e, tc] at w
    rcases w with w | ⟨m, w⟩
    · exact w rfl
    · cases w
  have flr : ∀ z f', f' ≠ f → xfl h' z f' = xfl h z f' := fun z f w => by rw [hh, xfl_putf, if_neg (fun e => w e.2)]; rfl
  have ff : xfl h' t f = n := by rw [hh, xfl_putf, if_pos ⟨rfl, rfl⟩]
  have arr : ∀ z x, z ≠ c → xar h' z x = xar h z x := fun z x w => by rw [hh]; show (if z = c ∧ x = k then a else xar h z x) = _; rw [if_neg (fun e => w e.1)]
  have arc : ∀ x, xar h' c x = if x = k then a else xar h c x := fun x => by
    rw [hh]
    show (if c = c ∧ x = k then a else xar h c x) = _
    by_cases q : x = k
    · rw [if_pos ⟨rfl, q⟩, if_pos q]
    · rw [if_neg (fun w => q w.2), if_neg q]
  rw [← hc, ← hh]
  clear hh
  have ne : ∀ z e m, xty h z = some (true, e, some m) → e ≠ 7 → z ≠ c := fun z e n q q2 w => by
    rw [w, tc] at q
    cases q
    exact q2 rfl
  have r5 : ∀ x, xar h' (xfl h t 105) x = xar h (xfl h t 105) x := fun x => arr _ x (ne _ _ _ a5.2.2 (by decide))
  have r6 : ∀ x, xar h' (xfl h t 106) x = xar h (xfl h t 106) x := fun x => arr _ x (ne _ _ _ a6.2.2 (by decide))
  have r8 : ∀ x, xar h' (xfl h t 108) x = xar h (xfl h t 108) x := fun x => arr _ x (ne _ _ _ a8.2.2 (by decide))
  have en : tnh (scp (ntp (pT P) q) kk (tsc (pT P) kk + 1)) = tnh (pT P) := if_neg (by omega)
  have ep : tpm (scp (ntp (pT P) q) kk (tsc (pT P) kk + 1)) = tpm (pT P) := if_neg (by omega)
  unfold XTn TownX
  show (CellX h' z0 t (true, 10, none) ∧ _) ∧ _
  rw [flr t 105 (by omega), flr t 106 (by omega), flr t 107 (by omega), flr t 108 (by omega), ← hc]
  simp only [r5, r6, r8]
  rw [← hc] at Nt a7
  refine ⟨⟨t0.g G, ⟨a5.g G, a6.g G, a7.g G, a8.g G⟩, ?_, fun j h0 h1 => (HouseX.g G (H j h0 (by have h1 : j < tnh (scp (ntp (pT P) q) kk (tsc (pT P) kk + 1)) := h1; omega)) (fun f' hf => by omega)).cg (fun q' hq => rfl), fun j h0 h1 => (PersX.g G (Pp j h0 (by have h1 : j < tpm (scp (ntp (pT P) q) kk (tsc (pT P) kk + 1)) := h1; omega)) ⟨by omega, by omega⟩).cg rfl rfl, fun j q2 hj => ?_, St⟩, fun j v hj => ?_, fun j v hj => ?_, fun j h0 h1 => ?_⟩
  · obtain ⟨s0, s1, s2, s3, s4, s5, s6, s7⟩ := sc
    have fe : ∀ k' : Nat, k' ≠ kk → tsc (scp (ntp (pT P) q) kk (tsc (pT P) kk + 1)) k' = tsc (pT P) k' := fun k' hk' => if_neg hk'
    have fk : tsc (scp (ntp (pT P) q) kk (tsc (pT P) kk + 1)) kk = tsc (pT P) kk + 1 := if_pos rfl
    rcases hk with ⟨rfl, rfl⟩ | ⟨rfl, rfl⟩
    · exact ⟨(flr _ _ (by decide)).trans (s0.trans (fe _ (by decide)).symm), (flr _ _ (by decide)).trans (s1.trans (fe _ (by decide)).symm), (flr _ _ (by decide)).trans (s2.trans (fe _ (by decide)).symm), (flr _ _ (by decide)).trans (s3.trans (fe _ (by decide)).symm), (flr _ _ (by decide)).trans (s4.trans (fe _ (by decide)).symm), (flr _ _ (by decide)).trans (s5.trans (fe _ (by decide)).symm), by rw [ff, hn, s6]; exact fk.symm, (flr _ _ (by decide)).trans (s7.trans (fe _ (by decide)).symm)⟩
    · exact ⟨(flr _ _ (by decide)).trans (s0.trans (fe _ (by decide)).symm), (flr _ _ (by decide)).trans (s1.trans (fe _ (by decide)).symm), (flr _ _ (by decide)).trans (s2.trans (fe _ (by decide)).symm), (flr _ _ (by decide)).trans (s3.trans (fe _ (by decide)).symm), (flr _ _ (by decide)).trans (s4.trans (fe _ (by decide)).symm), (flr _ _ (by decide)).trans (s5.trans (fe _ (by decide)).symm), (flr _ _ (by decide)).trans (s6.trans (fe _ (by decide)).symm), by rw [ff, hn, s7]; exact fk.symm⟩
  · rw [arc]
    rcases getE_app (show (tnt (pT P) ++ [q])[j]? = some q2 from hj) with ⟨lt, e⟩ | ⟨e, rfl⟩
    · rw [if_neg (by omega)]
      exact (Nt j q2 e).g G (fun f' hf => by omega)
    · rw [if_pos (by omega)]
      exact wN.g G (fun f' hf => by omega)
  · rw [flr _ 117 (by omega)]
    exact (hH j v hj).g G
  · rw [flr _ 117 (by omega)]
    exact (hP j v hj).g G
  · have lb : lentB (scp (ntp (pT P) q) kk (tsc (pT P) kk + 1)) j = lentB (pT P) j := by
      unfold lentB
      rw [en]
      rfl
    show _ ∧ _ = if lentB (scp (ntp (pT P) q) kk (tsc (pT P) kk + 1)) j = true then 1 else 0
    rw [lb, flr _ 126 (by omega), flr _ 127 (by omega)]
    exact fl j h0 (by have h1 : j < tnh (scp (ntp (pT P) q) kk (tsc (pT P) kk + 1)) := h1; omega)
