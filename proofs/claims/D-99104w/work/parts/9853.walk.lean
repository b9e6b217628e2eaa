/-! WALKS, 92: the model's reader: streets -/
set_option maxRecDepth 100000
set_option maxHeartbeats 4000000
theorem m_readStreet {d : Nat} {K : XX} {h : XH} {l : LTk} {P : PT} (Z : MZ K h (.inl l)) (R : MRt K h P (le_ l)) (I : MI P (le_ l)) (e2 : lk l = 2) : WpM (d + 10) 166 [.inr (.inr (ks K))] h (MLin K h P (le_ l) (lStreet (kt K) (kn K) P l)) := by
  have tm := Z.tm
  have tt := R.1.2.1
  have f138 := R.2.1.2.2.2.2.1
  have rg := I.1.2.2.2.1
  have s10 := I.1.2.2.2.2.2.1.2.1
  have over58 : ∀ h4 f z1 z2, lStreet (kt K) (kn K) P l = .inr f → MZ K h4 (.inr f) → FrM (ks K) h h4 → Wp (d + 10) 166 58 [some (.inr (.inr (ks K))), some (.inl z1), some (.inl z2), none] [] h4 (MLin K h P (le_ l) (lStreet (kt K) (kn K) P l)) := by
    intro h4 f z1 z2 er Z4 p4
    refine Wp.vc 400 [] rfl ?_
    refine Wp.callR (j := 0) rfl (Nat.le_of_ble_eq_true rfl) ⟨true, Z4.tm⟩ (m_goesOn (d := d + 8) Z4 (fun l e => by cases e)) (fun v h5 q => ?_)
    obtain ⟨rfl, Z5, p5⟩ := q
    have Z5 : MZ K h5 (.inr f) := Z5
    refine Wp.vc 400 [] rfl ?_
    refine Wp.callR (j := 0) rfl (Nat.le_of_ble_eq_true rfl) ⟨true, Z5.tm⟩ (m_readPart (d := d + 2) (k := 38) (lo := 1) (hi := 99) Z5 (by decide) (xwk (by decide) (by decide))) (fun v h6 q => ?_)
    obtain ⟨⟨z3, rfl, -⟩, Z6, p6⟩ := q
    have Z6 : MZ K h6 (.inr f) := Z6
    have f75 := Z6.2.1.1
    refine Wp.vc 400 [82] rfl ?_
    rw [f75]
    exact ⟨isF Z6.tm rfl, fun w => absurd rfl w, fun _ => ⟨trivial, MLin.over Z R er Z6 ((p4.trans p5).trans p6)⟩⟩
  have eL : lStreet (kt K) (kn K) P l = rb (rb (rb (.inl l) (rBegins (kt K) (kn K) (tsc (pT P) 4 < 10) (pT P))) (rHouse (kt K) (kn K) P)) (fun h => rb (rHere P h.2) fun g => if g.1 = h.1 ∨ 0 < tst (pT P) h.1 g.1 then .inr (3, la g.2) else rb (rAft (kt K) (kn K) (cw 38) 1 99 (ga (kt K) (kn K) g.2)) fun m => .inl ((scp (stp_ (stp_ (pT P) h.1 g.1 m.1) g.1 h.1 m.1) 4 (tsc (pT P) 4 + 1), P.2), m.2)) := (rb_rb _ _ _).symm
  refine WpM.of rfl (Wp.vc 400 [] rfl ?_)
  rw [f138]
  refine ⟨isF tm rfl, isF tt rfl, ?_⟩
  refine Wp.callR (j := 0) rfl (Nat.le_of_ble_eq_true rfl) ⟨true, tm⟩ (m_lineBegins (d := d + 7) (can := tsc (pT P) 4 < 10) Z R ⟨fun w q => (by omega), fun w => (by omega)⟩ (fun l' e => by cases e; rw [e2]; decide)) (fun v h1 q => ?_)
  obtain ⟨rfl, Z1, p1⟩ := q
  refine Wp.vc 400 [] rfl ?_
  refine Wp.callR (j := 0) rfl (Nat.le_of_ble_eq_true rfl) ⟨true, Z1.tm⟩ (m_readHouse (d := d + 1) Z1 (R.keep p1 Z) I) (fun v h2 q => ?_)
  obtain ⟨⟨z1, rfl, hz1⟩, Z2, p2⟩ := q
  have hB : ∀ q, rb (rb (.inl l) (rBegins (kt K) (kn K) (tsc (pT P) 4 < 10) (pT P))) (rHouse (kt K) (kn K) P) = .inl q → tsc (pT P) 4 < 10 ∧ 0 ≤ q.1 ∧ q.1 < tnh (pT P) := by
    intro q e
    have e : rb (rBegins (kt K) (kn K) (tsc (pT P) 4 < 10) (pT P) l) (rHouse (kt K) (kn K) P) = .inl q := e
    obtain ⟨l0, b, e⟩ := rb_inv e
    obtain ⟨c, -, rfl⟩ := rBegins_inv b
    exact ⟨c, (rHouse_inv e I.1.1 (ga_adv (Z.2.2 l rfl)).1).2.2⟩
  generalize rb (rb (.inl l) (rBegins (kt K) (kn K) (tsc (pT P) 4 < 10) (pT P))) (rHouse (kt K) (kn K) P) = r1 at *
  have pp := p1.trans p2
  refine Wp.vc 400 [] rfl ?_
  refine Wp.callR (j := 0) rfl (Nat.le_of_ble_eq_true rfl) ⟨true, Z2.tm⟩ (m_knownHouse (d := d + 2) Z2 (R.keep pp Z) I) (fun v h3 q => ?_)
  obtain ⟨⟨z2, rfl, hz2⟩, Z3, p3⟩ := q
  generalize hr2 : rb (rsnd r1) (rHere P) = r2 at *
  have pp := pp.trans p3
  have tm3 := Z3.tm
  clear p1 p2 p3 Z1 Z2
  have ov : ∀ f, lStreet (kt K) (kn K) P l = .inr f → MZ K h3 (.inr f) → Wp (d + 10) 166 23 [some (.inr (.inr (ks K))), some (.inl z1), some (.inl z2), none] [] h3 (MLin K h P (le_ l) (lStreet (kt K) (kn K) P l)) := by
    intro f er Z4
    have f75 := Z4.2.1.1
    have a := over58 h3 f z1 z2 er Z4 pp
    refine Wp.vc 400 [53, 58] rfl ?_
    rw [f75]
    exact ⟨isF tm3 rfl, fun _ => a, fun w => absurd rfl w⟩
  show Wp _ _ 22 _ _ _ _
  refine Wp.vc 400 [23] rfl ?_
  cases r1 with
  | inr f =>
    subst hr2
    exact ov f eL Z3
  | inl a =>
  have hza := hz1 a rfl
  obtain ⟨lt10, i0⟩ := hB a rfl
  have eL : lStreet (kt K) (kn K) P l = rb r2 (fun g => if g.1 = a.1 ∨ 0 < tst (pT P) a.1 g.1 then .inr (3, la g.2) else rb (rAft (kt K) (kn K) (cw 38) 1 99 (ga (kt K) (kn K) g.2)) fun m => .inl ((scp (stp_ (stp_ (pT P) a.1 g.1 m.1) g.1 a.1 m.1) 4 (tsc (pT P) 4 + 1), P.2), m.2)) := by rw [eL, ← hr2]; rfl
  cases r2 with
  | inr f => exact ov f eL Z3
  | inl gq =>
  have hzg := hz2 gq rfl
  obtain ⟨kg, elg, g0⟩ := rHere_inv (show rHere P a.2 = .inl gq from hr2) I.1.1
  rw [← hza] at i0 eL
  obtain ⟨g, l5⟩ := gq
  have hzg : z2 = g := hzg
  subst hzg
  have elg : l5 = a.2 := elg
  have kg : lk l5 = 2 := by rw [elg]; exact kg
  have g0 : 0 ≤ z2 ∧ z2 < tnh (pT P) := g0
  have Z3 : MZ K h3 (.inl l5) := Z3
  have eL : lStreet (kt K) (kn K) P l = if z2 = z1 ∨ 0 < tst (pT P) z1 z2 then .inr (3, la l5) else rb (rAft (kt K) (kn K) (cw 38) 1 99 (ga (kt K) (kn K) l5)) fun m => .inl ((scp (stp_ (stp_ (pT P) z1 z2 m.1) z2 z1 m.1) 4 (tsc (pT P) 4 + 1), P.2), m.2) := eL
  have ne3 := Z3.ne5
  have R3 := R.keep pp Z
  have y2 := R3.1.2.1
  have y8 := R3.1.2.2.2.2.2.1
  have f150 : xfl h3 (xfl h3 (ks K) 70) 150 = xfl h3 (ks K) 70 + 8 := R3.1.2.2.1 150 (by decide) (by decide)
  have vs := R3.2.2.2.2.1 z1 z2 i0.1 (by omega) g0.1 (by omega)
  clear ov
  have bad : (z2 = z1 ∨ 0 < tst (pT P) z1 z2) → Wp (d + 10) 166 53 [some (.inr (.inr (ks K))), some (.inl z1), some (.inl z2), none] [] h3 (MLin K h P (le_ l) (lStreet (kt K) (kn K) P l)) := by
    intro w
    rw [if_pos w] at eL
    refine Wp.vc 400 [58] rfl ?_
    refine Wp.callR (j := 0) rfl (Nat.le_of_ble_eq_true rfl) ⟨true, tm3⟩ (m_flaw (d := d + 9) Z3) (fun v h6 q => ?_)
    obtain ⟨rfl, Z6, p6⟩ := q
    exact over58 h6 _ z1 z2 eL Z6 (pp.trans p6)
  have good : ¬ (z2 = z1 ∨ 0 < tst (pT P) z1 z2) → Wp (d + 10) 166 58 [some (.inr (.inr (ks K))), some (.inl z1), some (.inl z2), none] [] h3 (MLin K h P (le_ l) (lStreet (kt K) (kn K) P l)) := by
    intro w
    rw [if_neg w] at eL
    refine Wp.vc 400 [] rfl ?_
    refine Wp.callR (j := 0) rfl (Nat.le_of_ble_eq_true rfl) ⟨true, tm3⟩ (m_goesOn (d := d + 8) Z3 (fun l' e => by cases e; rw [kg]; decide)) (fun v h4 q => ?_)
    obtain ⟨rfl, Z4, p4⟩ := q
    have Z4 : MZ K h4 (.inl (ga (kt K) (kn K) l5)) := Z4
    refine Wp.vc 400 [] rfl ?_
    refine Wp.callR (j := 0) rfl (Nat.le_of_ble_eq_true rfl) ⟨true, Z4.tm⟩ (m_readPart (d := d + 2) (k := 38) (lo := 1) (hi := 99) Z4 (by decide) (xwk (by decide) (by decide))) (fun v h6 q => ?_)
    obtain ⟨⟨z3, rfl, hz3⟩, Z6, p5⟩ := q
    have Z6 : MZ K h6 (rsnd (rAft (kt K) (kn K) (cw 38) 1 99 (ga (kt K) (kn K) l5))) := Z6
    have hz3 : ∀ q, rAft (kt K) (kn K) (cw 38) 1 99 (ga (kt K) (kn K) l5) = .inl q → z3 = q.1 := hz3
    generalize rAft (kt K) (kn K) (cw 38) 1 99 (ga (kt K) (kn K) l5) = r3 at *
    have pp := (pp.trans p4).trans p5
    have tm6 := Z6.tm
    cases r3 with
    | inr f =>
      have Z6 : MZ K h6 (.inr f) := Z6
      have f75 := Z6.2.1.1
      refine Wp.vc 400 [82] rfl ?_
      rw [f75]
      exact ⟨isF tm6 rfl, fun w => absurd rfl w, fun _ => ⟨trivial, MLin.over Z R eL Z6 pp⟩⟩
    | inl b =>
    have hzb := hz3 b rfl
    have Z6 : MZ K h6 (.inl b.2) := Z6
    have eL : lStreet (kt K) (kn K) P l = .inl ((scp (stp_ (stp_ (pT P) z1 z2 b.1) z2 z1 b.1) 4 (tsc (pT P) 4 + 1), P.2), b.2) := eL
    have ok := lStreet_ok (tp := kt K) (n := kn K) eL I.1 (Z.2.2 l rfl)
    have lt : le_ l < le_ b.2 := ok.2.2
    obtain ⟨R6Y, R6F⟩ := R.keep pp Z
    obtain ⟨t, ht⟩ : ∃ t, t = xfl h6 (ks K) 70 := ⟨_, rfl⟩
    rw [← ht] at R6Y R6F
    have y := R6Y
    obtain ⟨⟨y0, y1⟩, y2, y3, y4, y7, y8, -⟩ := y
    have e150 : xfl h6 t 150 = t + 8 := y3 150 (by decide) (by decide)
    have g138 : xfl h6 t 138 = tsc (pT P) 4 := R6F.1.2.2.2.2.1
    have ne6 := Z6.ne5
    have fr : FrTw K h6 (xputf (xputa (xputa h6 (t + 8) (7 * z1 + z2) z3) (t + 8) (7 * z2 + z1) z3) t 138 (tsc (pT P) 4 + 1)) := (((FrTw.refl h6).a (by omega)).a (by omega)).f y0 (by decide)
    have F : MTf (xputf (xputa (xputa h6 (t + 8) (7 * z1 + z2) z3) (t + 8) (7 * z2 + z1) z3) t 138 (tsc (pT P) 4 + 1)) t (scp (stp_ (stp_ (pT P) z1 z2 b.1) z2 z1 b.1) 4 (tsc (pT P) 4 + 1), P.2) (le_ b.2) := by
      obtain ⟨⟨g1, g2, g3, g4, g5, g6, g7, g8⟩, ⟨g9, g10, g11⟩, FH, FS, FP, FG, FN, FM⟩ := R6F
      have fx : ∀ f, f ≠ 138 → xfl (xputf (xputa (xputa h6 (t + 8) (7 * z1 + z2) z3) (t + 8) (7 * z2 + z1) z3) t 138 (tsc (pT P) 4 + 1)) t f = xfl h6 t f := fun f w => by rw [pf_ne w]; rfl
      have ax : ∀ c i, c ≠ 8 → xar (xputf (xputa (xputa h6 (t + 8) (7 * z1 + z2) z3) (t + 8) (7 * z2 + z1) z3) t 138 (tsc (pT P) 4 + 1)) (t + c) i = xar h6 (t + c) i := fun c i w => by rw [xar_putf, pa_ne (by omega), pa_ne (by omega)]
      refine ⟨⟨(fx _ (by decide)).trans g1, (fx _ (by decide)).trans g2, (fx _ (by decide)).trans g3, (fx _ (by decide)).trans g4, pf_eq, (fx _ (by decide)).trans g6, (fx _ (by decide)).trans g7, (fx _ (by decide)).trans g8⟩, ⟨(fx _ (by decide)).trans g9, by rw [fx _ (by decide)]; exact g10, by rw [fx _ (by decide)]; omega⟩, fun j j0 j1 => ?_, fun i j i0' i1 j0 j1 => ?_, fun j j0 j1 => ?_, fun k q hq => ?_, fun k q hq => ?_, fun k q hq => ?_⟩
      · rw [ax 1 _ (by decide), ax 2 _ (by decide), ax 3 _ (by decide), ax 4 _ (by decide), ax 5 _ (by decide), ax 6 _ (by decide), ax 7 _ (by decide)]
        exact FH j j0 j1
      · rw [xar_putf, pa_eq, pa_eq, hzb]
        have st : tst (scp (stp_ (stp_ (pT P) z1 z2 b.1) z2 z1 b.1) 4 (tsc (pT P) 4 + 1)) i j = if i = z2 ∧ j = z1 then b.1 else if i = z1 ∧ j = z2 then b.1 else tst (pT P) i j := rfl
        refine Eq.trans ?_ st.symm
        have v := FS i j i0' i1 j0 j1
        by_cases q : i = z2 ∧ j = z1
        · rw [if_pos q, if_pos (by omega)]
        · rw [if_neg q, if_neg (by omega)]
          by_cases q2 : i = z1 ∧ j = z2
          · rw [if_pos q2, if_pos (by omega)]
          · rw [if_neg q2, if_neg (by omega)]
            exact v
      · rw [ax 9 _ (by decide), ax 10 _ (by decide)]
        exact FP j j0 j1
      · rw [ax 11 _ (by decide), ax 14 _ (by decide)]
        exact FG k q hq
      · rw [ax 12 _ (by decide), ax 13 _ (by decide)]
        exact FN k q hq
      · rw [ax 15 _ (by decide), ax 16 _ (by decide), ax 17 _ (by decide)]
        exact FM k q hq
    have fin := MLin.live (P := P) (e := le_ l) eL Z6 pp fr R6Y ht.symm F
    clear F
    refine Wp.vc 400 [] rfl ?_
    simp only [xfl_puta, ← ht, e150, g138]
    exact ⟨isF tm6 rfl, fun _ => ⟨isF tm6 rfl, isF y2 rfl, ⟨by omega, by omega⟩, ⟨by omega, by omega⟩, isB y8 (by omega) (by omega), isF tm6 rfl, isF y2 rfl, ⟨by omega, by omega⟩, ⟨by omega, by omega⟩, isB y8 (by omega) (by omega), isF tm6 rfl, isF y2 rfl, ⟨by omega, by omega⟩, isW y2 rfl, trivial, fin⟩, fun w => absurd ne6 w⟩
  refine Wp.vc 400 [53, 58] rfl ?_
  rw [f150, vs]
  exact ⟨isF tm3 rfl, fun w => absurd w ne3, fun _ => ⟨fun w => bad (Or.inl w), fun w => ⟨isF tm3 rfl, isF y2 rfl, ⟨by omega, by omega⟩, ⟨by omega, by omega⟩, isA y8 (by omega) (by omega), fun w2 => good (fun q => q.elim w (fun z => by omega)), fun w2 => bad (Or.inr (by omega))⟩⟩⟩
