/-! WALKS, 69: WrongRoom's reader: names -/
set_option maxRecDepth 100000
set_option maxHeartbeats 4000000
/-- the names of a town that is read -/
def NI (P : PT) : Prop := (((pH P).length : Int) = tnh (pT P) ∧ ((pP P).length : Int) = tpm (pT P)) ∧ (∀ (i : Nat) w, (pH P)[i]? = some w → xword w ∧ (w, 0, (i : Int)) ∈ pN P) ∧ (∀ (i : Nat) w, (pP P)[i]? = some w → xword w ∧ (w, 1, (i : Int)) ∈ pN P) ∧ (∀ q ∈ pN P, (q.2.1 = 0 ∧ ∃ i : Nat, q.2.2 = i ∧ (pH P)[i]? = some q.1) ∨ (q.2.1 = 1 ∧ ∃ i : Nat, q.2.2 = i ∧ (pP P)[i]? = some q.1)) ∧ ∀ q ∈ pN P, ∀ q' ∈ pN P, q.1 = q'.1 → q = q'
theorem NI.found {P : PT} (N : NI P) {w : List Int} {a b : Int} (h : (w, a, b) ∈ pN P) : pFind P w = some (w, a, b) := by
  unfold pFind
  cases e : (pN P).find? (fun q => decide (q.1 = w)) with
  | none =>
    have := List.find?_eq_none.mp e _ h
    exact absurd (decide_eq_true (show (w, a, b).1 = w from rfl)) this
  | some q =>
    have h1 := List.find?_some e
    have h2 := List.mem_of_find?_eq_some e
    rw [N.2.2.2.2 q h2 _ h (by simpa using h1)]
theorem NI.lost {P : PT} (N : NI P) {w : List Int} (hH : ∀ (i : Nat) v, (pH P)[i]? = some v → v ≠ w) (hP : ∀ (i : Nat) v, (pP P)[i]? = some v → v ≠ w) : pFind P w = none := by
  unfold pFind
  refine List.find?_eq_none.mpr fun q hq => ?_
  have : q.1 ≠ w := by
    rcases N.2.2.2.1 q hq with ⟨-, i, -, e⟩ | ⟨-, i, -, e⟩
    · exact hH i _ e
    · exact hP i _ e
  simpa using this
/-- what is found is a house's name or a person's -/
theorem NI.is {P : PT} (N : NI P) {w : List Int} {q : List Int × Int × Int} (h : pFind P w = some q) : q.1 = w ∧ ((q.2.1 = 0 ∧ 0 ≤ q.2.2 ∧ q.2.2 < tnh (pT P)) ∨ (q.2.1 = 1 ∧ 0 ≤ q.2.2 ∧ q.2.2 < tpm (pT P))) := by
  have h1 := List.find?_some h
  have h2 := List.mem_of_find?_eq_some h
  refine ⟨by simpa using h1, ?_⟩
  rcases N.2.2.2.1 q h2 with ⟨e0, i, e1, e⟩ | ⟨e0, i, e1, e⟩
  · have := (List.getElem?_eq_some_iff.mp e).1
    have := N.1.1
    exact Or.inl ⟨e0, by omega, by omega⟩
  · have := (List.getElem?_eq_some_iff.mp e).1
    have := N.1.2
    exact Or.inr ⟨e0, by omega, by omega⟩
/-- the town that is read, in WrongRoom -/
def XTn (z0 : Int) (h : XH) (t : Int) (P : PT) : Prop := TownX h z0 t (pT P) ∧ (∀ (i : Nat) w, (pH P)[i]? = some w → StrX h z0 (xfl h (xar h (xfl h t 105) (i : Int)) 117) w) ∧ (∀ (i : Nat) w, (pP P)[i]? = some w → StrX h z0 (xfl h (xar h (xfl h t 106) (i : Int)) 117) w) ∧ ∀ i : Int, 0 ≤ i → i < tnh (pT P) → xfl h (xar h (xfl h t 105) i) 126 = thv (pT P) 9 i ∧ xfl h (xar h (xfl h t 105) i) 127 = if lentB (pT P) i = true then 1 else 0
theorem XTn.keep {z0 t : Int} {h g : XH} {P : PT} (p : Above z0 h g) (N : NI P) (X : XTn z0 h t P) : XTn z0 g t P := by
  obtain ⟨T, a, b, c⟩ := X
  have ct := T.1
  have f105 := ct.fl p 105 (by decide) (by decide)
  have f106 := ct.fl p 106 (by decide) (by decide)
  have hH : ∀ i : Int, 0 ≤ i → i < tnh (pT P) → CellX h z0 (xar h (xfl h t 105) i) (true, 11, none) := fun i h0 h1 => (T.2.2.2.1 i h0 h1).1
  have hP : ∀ i : Int, 0 ≤ i → i < tpm (pT P) → CellX h z0 (xar h (xfl h t 106) i) (true, 12, none) := fun i h0 h1 => (T.2.2.2.2.1 i h0 h1).1
  have a5 := T.2.1.1
  have a6 := T.2.1.2.1
  refine ⟨T.keep p, fun i w hi => ?_, fun i w hi => ?_, fun i h0 h1 => ?_⟩
  · have := (List.getElem?_eq_some_iff.mp hi).1
    have := N.1.1
    rw [f105, a5.ar p, (hH i (by omega) (by omega)).fl p 117 (by decide) (by decide)]
    exact (a i w hi).keep p
  · have := (List.getElem?_eq_some_iff.mp hi).1
    have := N.1.2
    rw [f106, a6.ar p, (hP i (by omega) (by omega)).fl p 117 (by decide) (by decide)]
    exact (b i w hi).keep p
  · rw [f105, a5.ar p, (hH i h0 h1).fl p 126 (by decide) (by decide), (hH i h0 h1).fl p 127 (by decide) (by decide)]
    exact c i h0 h1
def XRt (K : XX) (h : XH) (P : PT) : Prop := XTn (kz K) h (xfl h (ks K + 2) 30) P ∧ (xfl h (ks K + 2) 31 = if tsc (pT P) 0 = 0 then 0 else 1) ∧ xty h 0 = none
theorem FrL.f3 {s z0 : Int} {h g : XH} (p : FrL s z0 h g) (hz : 1 ≤ s ∧ s + 126 ≤ z0 ∧ z0 ≤ xsz h) {f : Nat} (hf : 30 ≤ f) : xfl g (s + 2) f = xfl h (s + 2) f := p.2.2.2.1 _ f (by omega) (fun w => by omega)
theorem XRt.keep {K : XX} {h g : XH} {P : PT} (p : FrL (ks K) (kz K) h g) (hz : 1 ≤ ks K ∧ ks K + 126 ≤ kz K ∧ kz K ≤ xsz h) (N : NI P) (X : XRt K h P) : XRt K g P := by
  obtain ⟨a, b, c⟩ := X
  unfold XRt
  rw [p.f3 hz (by decide), p.f3 hz (by decide)]
  exact ⟨a.keep (p.above hz.2.1) N, b, (p.2.2.1 0 (by omega)).trans c⟩
theorem x_find {d : Nat} {z0 t a : Int} {h : XH} {P : PT} {w : List Int} (X : XTn z0 h t P) (N : NI P) (hn : tnh (pT P) ≤ 7 ∧ 0 ≤ tnh (pT P)) (hp : tpm (pT P) ≤ 4 ∧ 0 ≤ tpm (pT P)) (W : StrV h a w) : WpM (d + 2) 257 [.inr (.inr t), .inr (.inr a)] h (XRet fun v h' => h' = h ∧ ((pFind P w = none ∧ v = some (.inr (.inr 0))) ∨ (∃ i : Int, pFind P w = some (w, 0, i) ∧ (0 ≤ i ∧ i < tnh (pT P)) ∧ v = some (.inr (.inr (xar h (xfl h t 105) i)))) ∨ (∃ i : Int, pFind P w = some (w, 1, i) ∧ (0 ≤ i ∧ i < tpm (pT P)) ∧ v = some (.inr (.inr (xar h (xfl h t 106) i)))))) := by
  obtain ⟨T, hH, hP, -⟩ := X
  have tt := T.1.2.2
  have f111 : xfl h t 111 = tnh (pT P) := T.2.2.1.2.2.1
  have f114 : xfl h t 114 = tpm (pT P) := T.2.2.1.2.2.2.2.2.1
  have a5 := T.2.1.1.2.2
  have a6 := T.2.1.2.1.2.2
  have cH : ∀ i : Int, 0 ≤ i → i < tnh (pT P) → xty h (xar h (xfl h t 105) i) = some (true, 11, none) := fun i h0 h1 => (T.2.2.2.1 i h0 h1).1.2.2
  have cP : ∀ i : Int, 0 ≤ i → i < tpm (pT P) → xty h (xar h (xfl h t 106) i) = some (true, 12, none) := fun i h0 h1 => (T.2.2.2.2.1 i h0 h1).1.2.2
  clear T
  have two : ∀ (k : Int) (g : XH), k ≤ tpm (pT P) → (0 ≤ k ∧ g = h ∧ (∀ (i : Nat) v, (pH P)[i]? = some v → v ≠ w) ∧ ∀ (i : Nat) v, (i : Int) < k → (pP P)[i]? = some v → v ≠ w) → Wp (d + 2) 257 41 [some (.inr (.inr t)), some (.inr (.inr a)), some (.inl k)] [] g (XRet fun v h' => h' = h ∧ ((pFind P w = none ∧ v = some (.inr (.inr 0))) ∨ (∃ i : Int, pFind P w = some (w, 0, i) ∧ (0 ≤ i ∧ i < tnh (pT P)) ∧ v = some (.inr (.inr (xar h (xfl h t 105) i)))) ∨ (∃ i : Int, pFind P w = some (w, 1, i) ∧ (0 ≤ i ∧ i < tpm (pT P)) ∧ v = some (.inr (.inr (xar h (xfl h t 106) i)))))) := by
    refine loopUp (G := fun k g => Wp (d + 2) 257 41 [some (.inr (.inr t)), some (.inr (.inr a)), some (.inl k)] [] g (XRet fun v h' => h' = h ∧ ((pFind P w = none ∧ v = some (.inr (.inr 0))) ∨ (∃ i : Int, pFind P w = some (w, 0, i) ∧ (0 ≤ i ∧ i < tnh (pT P)) ∧ v = some (.inr (.inr (xar h (xfl h t 105) i)))) ∨ (∃ i : Int, pFind P w = some (w, 1, i) ∧ (0 ≤ i ∧ i < tpm (pT P)) ∧ v = some (.inr (.inr (xar h (xfl h t 106) i))))))) (tpm (pT P)) ?_ ?_
    · rintro k g ⟨k0, rfl, nH, nP⟩ hk ih
      have lt : k.toNat < (pP P).length := by have := N.1.2; omega
      have e := List.getElem?_eq_getElem lt
      have S := hP k.toNat _ e
      obtain ⟨xw, mm⟩ := N.2.2.1 k.toNat _ e
      generalize (pP P)[k.toNat] = v at *
      rw [Int.toNat_of_nonneg k0] at S mm
      refine Wp.vc 400 [41] rfl ?_
      rw [f114]
      refine ⟨isF tt rfl, fun q => absurd q (by omega), fun _ => ⟨isF tt rfl, isR a6 (by decide) k0 (by omega), isF (cP k k0 hk) rfl, ?_⟩⟩
      refine Wp.callE (j := 0) rfl (Nat.le_of_ble_eq_true rfl) ⟨true, S.1.2.2⟩ (x_equals (S.v xw.2.1) W) ?_
      by_cases q : v = w
      · rw [if_pos q]
        subst q
        refine Wp.vc 400 [41] rfl ?_
        exact ⟨fun q => absurd q (by decide), fun _ => ⟨isF tt rfl, isR a6 (by decide) k0 (by omega), trivial, _, rfl, rfl, Or.inr (Or.inr ⟨k, N.found mm, ⟨k0, hk⟩, rfl⟩)⟩⟩
      · rw [if_neg q]
        have nx := ih g ⟨by omega, rfl, nH, fun i v' hi hv => by
          by_cases z : (i : Int) = k
          · have : i = k.toNat := by omega
            rw [this, e] at hv
            cases hv
            exact q
          · exact nP i v' (by omega) hv⟩
        refine Wp.vc 400 [41] rfl ?_
        exact ⟨fun _ => ⟨⟨by omega, by omega⟩, nx⟩, fun q => absurd rfl q⟩
    · rintro g ⟨k0, rfl, nH, nP⟩
      refine Wp.vc 400 [49] rfl ?_
      rw [f114]
      refine ⟨isF tt rfl, fun _ => ⟨trivial, _, rfl, rfl, Or.inl ⟨N.lost nH (fun i v hv => nP i v (by have := (List.getElem?_eq_some_iff.mp hv).1; have := N.1.2; omega) hv), rfl⟩⟩, fun q => absurd (Int.le_refl _) q⟩
  have one : ∀ (k : Int) (g : XH), k ≤ tnh (pT P) → (0 ≤ k ∧ g = h ∧ ∀ (i : Nat) v, (i : Int) < k → (pH P)[i]? = some v → v ≠ w) → Wp (d + 2) 257 2 [some (.inr (.inr t)), some (.inr (.inr a)), some (.inl k)] [] g (XRet fun v h' => h' = h ∧ ((pFind P w = none ∧ v = some (.inr (.inr 0))) ∨ (∃ i : Int, pFind P w = some (w, 0, i) ∧ (0 ≤ i ∧ i < tnh (pT P)) ∧ v = some (.inr (.inr (xar h (xfl h t 105) i)))) ∨ (∃ i : Int, pFind P w = some (w, 1, i) ∧ (0 ≤ i ∧ i < tpm (pT P)) ∧ v = some (.inr (.inr (xar h (xfl h t 106) i)))))) := by
    refine loopUp (G := fun k g => Wp (d + 2) 257 2 [some (.inr (.inr t)), some (.inr (.inr a)), some (.inl k)] [] g (XRet fun v h' => h' = h ∧ ((pFind P w = none ∧ v = some (.inr (.inr 0))) ∨ (∃ i : Int, pFind P w = some (w, 0, i) ∧ (0 ≤ i ∧ i < tnh (pT P)) ∧ v = some (.inr (.inr (xar h (xfl h t 105) i)))) ∨ (∃ i : Int, pFind P w = some (w, 1, i) ∧ (0 ≤ i ∧ i < tpm (pT P)) ∧ v = some (.inr (.inr (xar h (xfl h t 106) i))))))) (tnh (pT P)) ?_ ?_
    · rintro k g ⟨k0, rfl, nH⟩ hk ih
      have lt : k.toNat < (pH P).length := by have := N.1.1; omega
      have e := List.getElem?_eq_getElem lt
      have S := hH k.toNat _ e
      obtain ⟨xw, mm⟩ := N.2.1 k.toNat _ e
      generalize (pH P)[k.toNat] = v at *
      rw [Int.toNat_of_nonneg k0] at S mm
      refine Wp.vc 400 [2, 39] rfl ?_
      rw [f111]
      refine ⟨isF tt rfl, fun q => absurd q (by omega), fun _ => ⟨isF tt rfl, isR a5 (by decide) k0 (by omega), isF (cH k k0 hk) rfl, ?_⟩⟩
      refine Wp.callE (j := 0) rfl (Nat.le_of_ble_eq_true rfl) ⟨true, S.1.2.2⟩ (x_equals (S.v xw.2.1) W) ?_
      by_cases q : v = w
      · rw [if_pos q]
        subst q
        refine Wp.vc 400 [2, 39] rfl ?_
        exact ⟨fun q => absurd q (by decide), fun _ => ⟨isF tt rfl, isR a5 (by decide) k0 (by omega), trivial, _, rfl, rfl, Or.inr (Or.inl ⟨k, N.found mm, ⟨k0, hk⟩, rfl⟩)⟩⟩
      · rw [if_neg q]
        have nx := ih g ⟨by omega, rfl, fun i v' hi hv => by
          by_cases z : (i : Int) = k
          · have : i = k.toNat := by omega
            rw [this, e] at hv
            cases hv
            exact q
          · exact nH i v' (by omega) hv⟩
        refine Wp.vc 400 [2, 39] rfl ?_
        exact ⟨fun _ => ⟨⟨by omega, by omega⟩, nx⟩, fun q => absurd rfl q⟩
    · rintro g ⟨k0, rfl, nH⟩
      have nx := two 0 g hp.2 ⟨Int.le_refl _, rfl, fun i v hv => nH i v (by have := (List.getElem?_eq_some_iff.mp hv).1; have := N.1.1; omega) hv, fun i v hi => by omega⟩
      refine Wp.vc 400 [41, 10] rfl ?_
      rw [f111]
      exact ⟨isF tt rfl, fun _ => nx, fun q => absurd (Int.le_refl _) q⟩
  have k0 := one 0 h hn.2 ⟨Int.le_refl _, rfl, fun i v hi => by omega⟩
  refine WpM.of rfl (Wp.vc 400 [2] rfl ?_)
  exact k0
