/-! WALKS, 90: the model's reader: wrong rooms, hours, streets -/
set_option maxRecDepth 100000
set_option maxHeartbeats 4000000
theorem m_isOf {d : Nat} {z0 t g e : Int} {h : XH} {P : PT} (Y : MTy z0 h t) (F : MTf h t P e) (n7 : 0 ≤ tnh (pT P) ∧ tnh (pT P) ≤ 7) : WpM d 293 [.inr (.inr t), .inl g] h (XE (some (.inl (if lentB (pT P) g = true then 1 else 0))) h) := by
  have y2 := Y.2.1
  have y4 := Y.2.2.2.1 4 (by decide)
  have f146 : xfl h t 146 = t + 4 := Y.2.2.1 146 (by decide) (by decide)
  have f135 : xfl h t 135 = tnh (pT P) := F.1.2.2.1
  have key : ∀ (k : Int) (h2 : XH), k ≤ tnh (pT P) → (0 ≤ k ∧ h2 = h ∧ ∀ i : Int, 0 ≤ i → i < k → thv (pT P) 3 i ≠ g) → Wp d 293 2 [some (.inr (.inr t)), some (.inl g), some (.inl k)] [] h2 (XE (some (.inl (if lentB (pT P) g = true then 1 else 0))) h) := by
    refine loopUp (G := fun k h2 => Wp d 293 2 [some (.inr (.inr t)), some (.inl g), some (.inl k)] [] h2 (XE (some (.inl (if lentB (pT P) g = true then 1 else 0))) h)) (tnh (pT P)) ?_ ?_
    · rintro k h2 ⟨k0, rfl, no⟩ hk ih
      have v := (F.2.2.1 k k0 hk).2.2.2.1
      refine Wp.vc 400 [2] rfl ?_
      rw [f135, f146, v]
      refine ⟨isF y2 rfl, fun w => absurd w (by omega), fun _ => ⟨isF y2 rfl, isA y4 k0 (by omega), fun w => ⟨⟨by omega, by omega⟩, ih h2 ⟨by omega, rfl, fun i i0 i1 => ?_⟩⟩, fun w => ⟨⟨by decide, by decide⟩, ?_⟩⟩⟩
      · by_cases q : i = k
        · rw [q]; exact w
        · exact no i i0 (by omega)
      · rw [if_pos (lentB_iff.mpr ⟨k, k0, hk, Decidable.of_not_not w⟩)]
        exact XE.mk
    · rintro h2 ⟨k0, rfl, no⟩
      refine Wp.vc 400 [10] rfl ?_
      rw [f135]
      refine ⟨isF y2 rfl, fun _ => ⟨⟨by decide, by decide⟩, ?_⟩, fun w => absurd (Int.le_refl _) w⟩
      rw [if_neg (fun w => by
        obtain ⟨i, i0, i1, e⟩ := lentB_iff.mp w
        exact no i i0 i1 e)]
      exact XE.mk
  refine WpM.of rfl (Wp.vc 400 [2] rfl ?_)
  exact key 0 h n7.1 ⟨Int.le_refl _, rfl, fun i i0 i1 => by omega⟩
theorem MZ.ne5 {K : XX} {h : XH} {l : LTk} (Z : MZ K h (.inl l)) : xfl h (ks K) 75 ≠ 5 := fun w => by
  obtain ⟨f, w⟩ := Z.s5.mp w
  cases w
theorem m_readWrong {d : Nat} {K : XX} {h : XH} {l : LTk} {P : PT} (Z : MZ K h (.inl l)) (R : MRt K h P (le_ l)) (I : MI P (le_ l)) (e2 : lk l = 2) : WpM (d + 10) 163 [.inr (.inr (ks K))] h (MLin K h P (le_ l) (lWrong (kt K) (kn K) P l)) := by
  have tm := Z.tm
  have rg := I.1.2.2.2.1
  have over83 : ∀ h4 f ls, lWrong (kt K) (kn K) P l = .inr f → MZ K h4 (.inr f) → FrM (ks K) h h4 → Wp (d + 10) 163 83 (some (.inr (.inr (ks K))) :: ls) [] h4 (MLin K h P (le_ l) (lWrong (kt K) (kn K) P l)) := by
    intro h4 f ls er Z4 p4
    refine Wp.vc 400 [] rfl ?_
    refine Wp.callR (j := 0) rfl (Nat.le_of_ble_eq_true rfl) ⟨true, Z4.tm⟩ (m_goesOn (d := d + 8) Z4 (fun l e => by cases e)) (fun v h5 q => ?_)
    obtain ⟨rfl, Z5, p5⟩ := q
    have f75 := Z5.2.1.1
    refine Wp.vc 400 [96] rfl ?_
    rw [f75]
    exact ⟨isF Z5.tm rfl, fun w => absurd rfl w, fun _ => ⟨trivial, MLin.over Z R er Z5 (p4.trans p5)⟩⟩
  have over49 : ∀ h4 f z1, lWrong (kt K) (kn K) P l = .inr f → MZ K h4 (.inr f) → FrM (ks K) h h4 → Wp (d + 10) 163 49 [some (.inr (.inr (ks K))), some (.inl z1), none] [] h4 (MLin K h P (le_ l) (lWrong (kt K) (kn K) P l)) := by
    intro h4 f z1 er Z4 p4
    refine Wp.vc 400 [] rfl ?_
    refine Wp.callR (j := 0) rfl (Nat.le_of_ble_eq_true rfl) ⟨true, Z4.tm⟩ (m_knownHouse (d := d + 2) Z4 (R.keep p4 Z) I) (fun v h5 q => ?_)
    obtain ⟨⟨z, rfl, -⟩, Z5, p5⟩ := q
    have Z5 : MZ K h5 (.inr f) := Z5
    have f75 := Z5.2.1.1
    have a := over83 h5 f [some (.inl z1), some (.inl z)] er Z5 (p4.trans p5)
    refine Wp.vc 400 [62, 83] rfl ?_
    rw [f75]
    exact ⟨isF Z5.tm rfl, fun _ => a, fun w => absurd rfl w⟩
  have over42 : ∀ h4 f z1, lWrong (kt K) (kn K) P l = .inr f → MZ K h4 (.inr f) → FrM (ks K) h h4 → Wp (d + 10) 163 42 [some (.inr (.inr (ks K))), some (.inl z1), none] [] h4 (MLin K h P (le_ l) (lWrong (kt K) (kn K) P l)) := by
    intro h4 f z1 er Z4 p4
    refine Wp.vc 400 [] rfl ?_
    refine Wp.callR (j := 0) rfl (Nat.le_of_ble_eq_true rfl) ⟨true, Z4.tm⟩ (m_needs (d := d + 3) (k := 35) Z4 (by decide) (xwk (by decide) (by decide))) (fun v h5 q => ?_)
    obtain ⟨rfl, Z5, p5⟩ := q
    exact over49 h5 f z1 er Z5 (p4.trans p5)
  have over38 : ∀ h4 f z1, lWrong (kt K) (kn K) P l = .inr f → MZ K h4 (.inr f) → FrM (ks K) h h4 → Wp (d + 10) 163 38 [some (.inr (.inr (ks K))), some (.inl z1), none] [] h4 (MLin K h P (le_ l) (lWrong (kt K) (kn K) P l)) := by
    intro h4 f z1 er Z4 p4
    refine Wp.vc 400 [] rfl ?_
    refine Wp.callR (j := 0) rfl (Nat.le_of_ble_eq_true rfl) ⟨true, Z4.tm⟩ (m_goesOn (d := d + 8) Z4 (fun l e => by cases e)) (fun v h5 q => ?_)
    obtain ⟨rfl, Z5, p5⟩ := q
    exact over42 h5 f z1 er Z5 (p4.trans p5)
  have eL : lWrong (kt K) (kn K) P l = rb (rb (rb (.inl l) (rBegins (kt K) (kn K) True (pT P))) (rHere P)) (fun h => if thv (pT P) 3 h.1 = -2 then rb (rMust (kt K) (kn K) (cw 35) (ga (kt K) (kn K) h.2)) fun l3 => rb (rHere P l3) fun g => if g.1 = h.1 ∨ lentB (pT P) g.1 = true then .inr (3, la g.2) else .inl ((hvp (pT P) 3 h.1 g.1, P.2), ga (kt K) (kn K) g.2) else .inr (3, la h.2)) := (rb_rb _ _ _).symm
  refine WpM.of rfl (Wp.vc 400 [] rfl ?_)
  refine Wp.callR (j := 0) rfl (Nat.le_of_ble_eq_true rfl) ⟨true, tm⟩ (m_lineBegins (d := d + 7) (can := True) Z R ⟨fun _ => by decide, fun _ => trivial⟩ (fun l' e => by cases e; rw [e2]; decide)) (fun v h1 q => ?_)
  obtain ⟨rfl, Z1, p1⟩ := q
  refine Wp.vc 400 [] rfl ?_
  refine Wp.callR (j := 0) rfl (Nat.le_of_ble_eq_true rfl) ⟨true, Z1.tm⟩ (m_knownHouse (d := d + 2) Z1 (R.keep p1 Z) I) (fun v h2 q => ?_)
  obtain ⟨⟨z1, rfl, hz1⟩, Z2, p2⟩ := q
  generalize hr1 : rb (rb (.inl l) (rBegins (kt K) (kn K) True (pT P))) (rHere P) = r1 at *
  have pp := p1.trans p2
  have tm2 := Z2.tm
  cases r1 with
  | inr f =>
    have f75 := Z2.2.1.1
    have a := over38 h2 f z1 eL Z2 pp
    refine Wp.vc 400 [38] rfl ?_
    rw [f75]
    exact ⟨isF tm2 rfl, fun _ => a, fun w => absurd rfl w⟩
  | inl hq =>
  have hz1 := hz1 hq rfl
  have hh : ∃ l0, rHere P l0 = .inl hq := by
    cases hb : rBegins (kt K) (kn K) True (pT P) l with
    | inr f =>
      have : rb (rBegins (kt K) (kn K) True (pT P) l) (rHere P) = .inl hq := hr1
      rw [hb] at this
      cases this
    | inl l0 =>
      have : rb (rBegins (kt K) (kn K) True (pT P) l) (rHere P) = .inl hq := hr1
      rw [hb] at this
      exact ⟨l0, this⟩
  obtain ⟨l0, hh⟩ := hh
  obtain ⟨k0, el0, i0⟩ := rHere_inv hh I.1.1
  obtain ⟨i, l1⟩ := hq
  have el0 : l1 = l0 := el0
  subst el0
  have i0 : 0 ≤ i ∧ i < tnh (pT P) := i0
  have hz1 : z1 = i := hz1
  subst hz1
  have Z2 : MZ K h2 (.inl l1) := Z2
  have eL : lWrong (kt K) (kn K) P l = if thv (pT P) 3 z1 = -2 then rb (rMust (kt K) (kn K) (cw 35) (ga (kt K) (kn K) l1)) fun l3 => rb (rHere P l3) fun g => if g.1 = z1 ∨ lentB (pT P) g.1 = true then .inr (3, la g.2) else .inl ((hvp (pT P) 3 z1 g.1, P.2), ga (kt K) (kn K) g.2) else .inr (3, la l1) := eL
  have R2 := R.keep pp Z
  have y2 := R2.1.2.1
  have y4 := R2.1.2.2.2.1 4 (by decide)
  have f146 := R2.1.2.2.1 146 (by decide) (by decide)
  have v3 := (R2.2.2.2.1 z1 i0.1 i0.2).2.2.2.1
  have f146 : xfl h2 (xfl h2 (ks K) 70) 146 = xfl h2 (ks K) 70 + 4 := f146
  have ne2 := Z2.ne5
  have go : thv (pT P) 3 z1 = -2 → Wp (d + 10) 163 38 [some (.inr (.inr (ks K))), some (.inl z1), none] [] h2 (MLin K h P (le_ l) (lWrong (kt K) (kn K) P l)) := by
    intro m2
    rw [if_pos m2] at eL
    refine Wp.vc 400 [] rfl ?_
    refine Wp.callR (j := 0) rfl (Nat.le_of_ble_eq_true rfl) ⟨true, tm2⟩ (m_goesOn (d := d + 8) Z2 (fun l' e => by cases e; rw [k0]; decide)) (fun v h3 q => ?_)
    obtain ⟨rfl, Z3, p3⟩ := q
    have Z3 : MZ K h3 (.inl (ga (kt K) (kn K) l1)) := Z3
    refine Wp.vc 400 [] rfl ?_
    refine Wp.callR (j := 0) rfl (Nat.le_of_ble_eq_true rfl) ⟨true, Z3.tm⟩ (m_needs (d := d + 3) (k := 35) Z3 (by decide) (xwk (by decide) (by decide))) (fun v h4 q => ?_)
    obtain ⟨rfl, Z4, p4⟩ := q
    have Z4 : MZ K h4 (rMust (kt K) (kn K) (cw 35) (ga (kt K) (kn K) l1)) := Z4
    have pp := (pp.trans p3).trans p4
    cases hm : rMust (kt K) (kn K) (cw 35) (ga (kt K) (kn K) l1) with
    | inr f =>
      rw [hm] at eL Z4
      exact over49 h4 f z1 eL Z4 pp
    | inl l3 =>
    rw [hm] at eL Z4
    have eL : lWrong (kt K) (kn K) P l = rb (rHere P l3) fun g => if g.1 = z1 ∨ lentB (pT P) g.1 = true then .inr (3, la g.2) else .inl ((hvp (pT P) 3 z1 g.1, P.2), ga (kt K) (kn K) g.2) := eL
    refine Wp.vc 400 [] rfl ?_
    refine Wp.callR (j := 0) rfl (Nat.le_of_ble_eq_true rfl) ⟨true, Z4.tm⟩ (m_knownHouse (d := d + 2) Z4 (R.keep pp Z) I) (fun v h5 q => ?_)
    obtain ⟨⟨z2, rfl, hz2⟩, Z5, p5⟩ := q
    have Z5 : MZ K h5 (rsnd (rHere P l3)) := Z5
    have hz2 : ∀ q, rHere P l3 = .inl q → z2 = q.1 := hz2
    have pp := pp.trans p5
    have tm5 := Z5.tm
    cases hg : rHere P l3 with
    | inr f =>
      rw [hg] at eL Z5
      have Z5 : MZ K h5 (.inr f) := Z5
      have f75 := Z5.2.1.1
      have a := over83 h5 f [some (.inl z1), some (.inl z2)] eL Z5 pp
      refine Wp.vc 400 [62, 83] rfl ?_
      rw [f75]
      exact ⟨isF tm5 rfl, fun _ => a, fun w => absurd rfl w⟩
    | inl gq =>
    rw [hg] at eL Z5
    obtain ⟨kg, elg, g0⟩ := rHere_inv hg I.1.1
    have hzz := hz2 gq hg
    obtain ⟨g, l5⟩ := gq
    have elg : l5 = l3 := elg
    subst elg
    have hzz : z2 = g := hzz
    subst hzz
    have g0 : 0 ≤ z2 ∧ z2 < tnh (pT P) := g0
    have Z5 : MZ K h5 (.inl l5) := Z5
    have eL : lWrong (kt K) (kn K) P l = if z2 = z1 ∨ lentB (pT P) z2 = true then .inr (3, la l5) else .inl ((hvp (pT P) 3 z1 z2, P.2), ga (kt K) (kn K) l5) := eL
    have ne5 := Z5.ne5
    have R5 := R.keep pp Z
    have io := m_isOf (d := d + 9) (g := z2) R5.1 R5.2 rg
    have y2 := R5.1.2.1
    have bad : (z2 = z1 ∨ lentB (pT P) z2 = true) → Wp (d + 10) 163 78 [some (.inr (.inr (ks K))), some (.inl z1), some (.inl z2)] [] h5 (MLin K h P (le_ l) (lWrong (kt K) (kn K) P l)) := by
      intro w
      rw [if_pos w] at eL
      refine Wp.vc 400 [83] rfl ?_
      refine Wp.callR (j := 0) rfl (Nat.le_of_ble_eq_true rfl) ⟨true, tm5⟩ (m_flaw (d := d + 9) Z5) (fun v h6 q => ?_)
      obtain ⟨rfl, Z6, p6⟩ := q
      exact over83 h6 _ [some (.inl z1), some (.inl z2)] eL Z6 (pp.trans p6)
    have good : ¬ (z2 = z1 ∨ lentB (pT P) z2 = true) → Wp (d + 10) 163 83 [some (.inr (.inr (ks K))), some (.inl z1), some (.inl z2)] [] h5 (MLin K h P (le_ l) (lWrong (kt K) (kn K) P l)) := by
      intro w
      rw [if_neg w] at eL
      refine Wp.vc 400 [] rfl ?_
      refine Wp.callR (j := 0) rfl (Nat.le_of_ble_eq_true rfl) ⟨true, tm5⟩ (m_goesOn (d := d + 8) Z5 (fun l' e => by cases e; rw [kg]; decide)) (fun v h6 q => ?_)
      obtain ⟨rfl, Z6, p6⟩ := q
      have Z6 : MZ K h6 (.inl (ga (kt K) (kn K) l5)) := Z6
      have pp := pp.trans p6
      have ok := lWrong_ok (tp := kt K) (n := kn K) eL I.1 (Z.2.2 l rfl)
      have lt : le_ l < le_ (ga (kt K) (kn K) l5) := ok.2.2
      obtain ⟨R6Y, R6F⟩ := R.keep pp Z
      obtain ⟨t, ht⟩ : ∃ t, t = xfl h6 (ks K) 70 := ⟨_, rfl⟩
      rw [← ht] at R6Y R6F
      have y := R6Y
      obtain ⟨⟨y0, y1⟩, y2, y3, y4, -⟩ := y
      have e146 : xfl h6 t 146 = t + 4 := y3 146 (by decide) (by decide)
      have tm6 := Z6.tm
      have ne6 := Z6.ne5
      have fr : FrTw K h6 (xputf (xputa h6 (t + 4) z1 z2) t 136 (xfl h6 t 136 + 1)) := ((FrTw.refl h6).a (by omega)).f y0 (by decide)
      have l6 := (Z.2.2 l rfl).1
      have n11 := Z.1.2.2.2.1
      have kb := R6F.2.1
      have hv : ∀ q j, ¬ (q = 3 ∧ j = z1) → thv (hvp (pT P) 3 z1 z2) q j = thv (pT P) q j := fun q j w => if_neg w
      have hvi : thv (hvp (pT P) 3 z1 z2) 3 z1 = z2 := if_pos ⟨rfl, rfl⟩
      have F : MTf (xputf (xputa h6 (t + 4) z1 z2) t 136 (xfl h6 t 136 + 1)) t (hvp (pT P) 3 z1 z2, P.2) (le_ (ga (kt K) (kn K) l5)) := by
        obtain ⟨⟨g1, g2, g3, g4, g5, g6, g7, g8⟩, ⟨g9, g10, g11⟩, FH, FS, FP, FG, FN, FM⟩ := R6F
        have fx : ∀ f, f ≠ 136 → xfl (xputf (xputa h6 (t + 4) z1 z2) t 136 (xfl h6 t 136 + 1)) t f = xfl h6 t f := fun f w => by rw [pf_ne w]; rfl
        have ax : ∀ c i, c ≠ 4 → xar (xputf (xputa h6 (t + 4) z1 z2) t 136 (xfl h6 t 136 + 1)) (t + c) i = xar h6 (t + c) i := fun c i w => by rw [xar_putf, pa_ne (by omega)]
        refine ⟨⟨(fx _ (by decide)).trans g1, (fx _ (by decide)).trans g2, (fx _ (by decide)).trans g3, (fx _ (by decide)).trans g4, (fx _ (by decide)).trans g5, (fx _ (by decide)).trans g6, (fx _ (by decide)).trans g7, (fx _ (by decide)).trans g8⟩, ⟨(fx _ (by decide)).trans g9, by rw [pf_eq]; omega, by rw [pf_eq]; omega⟩, fun j j0 j1 => ?_, fun i j i0 i1 j0 j1 => (ax 8 _ (by decide)).trans (FS i j i0 i1 j0 j1), fun j j0 j1 => ?_, fun k q hq => ?_, fun k q hq => ?_, fun k q hq => ?_⟩
        · show _ = thv (hvp (pT P) 3 z1 z2) 0 j ∧ _ = thv (hvp (pT P) 3 z1 z2) 1 j ∧ _ = thv (hvp (pT P) 3 z1 z2) 2 j ∧ _ = thv (hvp (pT P) 3 z1 z2) 3 j ∧ ((thv (hvp (pT P) 3 z1 z2) 9 j = 0 ∧ _ = -1) ∨ (thv (hvp (pT P) 3 z1 z2) 9 j = 1 ∧ _ = thv (hvp (pT P) 3 z1 z2) 4 j ∧ _ = thv (hvp (pT P) 3 z1 z2) 5 j)) ∧ _ = thv (hvp (pT P) 3 z1 z2) 6 j
          rw [ax 1 _ (by decide), ax 2 _ (by decide), ax 3 _ (by decide), ax 5 _ (by decide), ax 6 _ (by decide), ax 7 _ (by decide), hv 0 j (by omega), hv 1 j (by omega), hv 2 j (by omega), hv 9 j (by omega), hv 4 j (by omega), hv 5 j (by omega), hv 6 j (by omega), xar_putf, pa_eq]
          obtain ⟨x1, x2, x3, x4, x5⟩ := FH j j0 j1
          refine ⟨x1, x2, x3, ?_, x5⟩
          by_cases q : j = z1
          · rw [if_pos q, q, hvi]
          · rw [if_neg q, hv 3 j (fun w => q w.2)]
            exact x4
        · rw [ax 9 _ (by decide), ax 10 _ (by decide)]
          show _ = thv (hvp (pT P) 3 z1 z2) 7 j ∧ _ = thv (hvp (pT P) 3 z1 z2) 8 j
          rw [hv 7 j (by omega), hv 8 j (by omega)]
          exact FP j j0 j1
        · rw [ax 11 _ (by decide), ax 14 _ (by decide)]
          exact FG k q hq
        · rw [ax 12 _ (by decide), ax 13 _ (by decide)]
          exact FN k q hq
        · rw [ax 15 _ (by decide), ax 16 _ (by decide), ax 17 _ (by decide)]
          exact FM k q hq
      have fin := MLin.live (P := P) (e := le_ l) eL Z6 pp fr R6Y ht.symm F
      refine Wp.vc 400 [] rfl ?_
      simp only [xfl_puta, ← ht, e146]
      exact ⟨isF tm6 rfl, fun _ => ⟨isF tm6 rfl, isF y2 rfl, isB (y4 4 (by decide)) i0.1 (by omega), isF tm6 rfl, isF y2 rfl, ⟨by omega, by omega⟩, isW y2 rfl, trivial, fin⟩, fun w => absurd ne6 w⟩
    refine Wp.vc 400 [62, 83] rfl ?_
    refine ⟨isF tm5 rfl, fun w => absurd w ne5, fun _ => ?_⟩
    refine Wp.vc 400 [78, 83] rfl ?_
    refine ⟨fun w => bad (Or.inl w), fun w => ⟨isF tm5 rfl, ?_⟩⟩
    refine Wp.callE (j := 0) rfl (Nat.le_of_ble_eq_true rfl) ⟨true, y2⟩ io ?_
    by_cases lb : lentB (pT P) z2 = true
    · rw [if_pos lb]
      refine Wp.vc 400 [78, 83] rfl ?_
      exact ⟨fun w => absurd w (by decide), fun _ => bad (Or.inr lb)⟩
    · rw [if_neg lb]
      refine Wp.vc 400 [78, 83] rfl ?_
      exact ⟨fun _ => good (fun q => q.elim w lb), fun w => absurd rfl w⟩
  refine Wp.vc 400 [38] rfl ?_
  rw [f146, v3]
  refine ⟨isF tm2 rfl, fun w => absurd w ne2, fun _ => ⟨isF tm2 rfl, isF y2 rfl, isA y4 i0.1 (by omega), go, fun m2 => ?_⟩⟩
  rw [if_neg m2] at eL
  refine Wp.callR (j := 0) rfl (Nat.le_of_ble_eq_true rfl) ⟨true, tm2⟩ (m_flaw (d := d + 9) Z2) (fun v h3 q => ?_)
  obtain ⟨rfl, Z3, p3⟩ := q
  exact over38 h3 _ z1 eL Z3 (pp.trans p3)
