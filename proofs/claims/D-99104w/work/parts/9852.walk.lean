/-! WALKS, 91: the model's reader: hours, streets -/
set_option maxRecDepth 100000
set_option maxHeartbeats 4000000
theorem here_inl {tp : List Int} {n : Int} {P : PT} {can : Prop} [Decidable can] {l : LTk} {hq : Int × LTk} (h : rb (rb (.inl l) (rBegins tp n can (pT P))) (rHere P) = .inl hq) : ∃ l0, rHere P l0 = .inl hq := by
  have h : rb (rBegins tp n can (pT P) l) (rHere P) = .inl hq := h
  obtain ⟨l0, -, e⟩ := rb_inv h
  exact ⟨l0, e⟩
theorem m_isTimedP {d : Nat} {z0 t i e : Int} {h : XH} {P : PT} (Y : MTy z0 h t) (F : MTf h t P e) (I : MI P e) (i0 : 0 ≤ i ∧ i < tnh (pT P)) : WpM d 294 [.inr (.inr t), .inl i] h (XE (some (.inl (if thv (pT P) 9 i = 0 then 0 else 1))) h) := by
  have y2 := Y.2.1
  have y4 := Y.2.2.2.1 5 (by decide)
  have n7 := I.1.2.2.2.1
  have f147 : xfl h t 147 = t + 5 := Y.2.2.1 147 (by decide) (by decide)
  have v := (F.2.2.1 i i0.1 i0.2).2.2.2.2.1
  have p4 := (I.1.2.2.2.2.2.2.1 i i0.1 i0.2).2.2.2.2.1
  refine WpM.of rfl (Wp.vc 400 [] rfl ?_)
  rw [f147]
  refine ⟨isF y2 rfl, isA y4 i0.1 (by omega), fun w => ⟨⟨by decide, by decide⟩, ?_⟩, fun w => ⟨⟨by decide, by decide⟩, ?_⟩⟩
  · rcases v with ⟨v0, -⟩ | ⟨v1, v2, -⟩
    · rw [if_pos v0]
      exact XE.mk
    · omega
  · rcases v with ⟨v0, v2⟩ | ⟨v1, v2, -⟩
    · exact absurd v2 w
    · rw [if_neg (by omega)]
      exact XE.mk
theorem m_readOpen {d : Nat} {K : XX} {h : XH} {l : LTk} {P : PT} (Z : MZ K h (.inl l)) (R : MRt K h P (le_ l)) (I : MI P (le_ l)) (e2 : lk l = 2) : WpM (d + 10) 165 [.inr (.inr (ks K))] h (MLin K h P (le_ l) (lOpen (kt K) (kn K) P l)) := by
  have tm := Z.tm
  have rg := I.1.2.2.2.1
  have over61 : ∀ h4 f ls, lOpen (kt K) (kn K) P l = .inr f → MZ K h4 (.inr f) → FrM (ks K) h h4 → Wp (d + 10) 165 61 (some (.inr (.inr (ks K))) :: ls) [] h4 (MLin K h P (le_ l) (lOpen (kt K) (kn K) P l)) := by
    intro h4 f ls er Z5 p4
    have f75 := Z5.2.1.1
    refine Wp.vc 400 [70] rfl ?_
    rw [f75]
    exact ⟨isF Z5.tm rfl, fun w => absurd rfl w, fun _ => ⟨trivial, MLin.over Z R er Z5 p4⟩⟩
  have over35 : ∀ h4 f z1, lOpen (kt K) (kn K) P l = .inr f → MZ K h4 (.inr f) → FrM (ks K) h h4 → Wp (d + 10) 165 35 [some (.inr (.inr (ks K))), some (.inl z1), none, none] [] h4 (MLin K h P (le_ l) (lOpen (kt K) (kn K) P l)) := by
    intro h4 f z1 er Z4 p4
    refine Wp.vc 400 [] rfl ?_
    refine Wp.callR (j := 0) rfl (Nat.le_of_ble_eq_true rfl) ⟨true, Z4.tm⟩ (m_goesOn (d := d + 8) Z4 (fun l e => by cases e)) (fun v h5 q => ?_)
    obtain ⟨rfl, Z5, p5⟩ := q
    have Z5 : MZ K h5 (.inr f) := Z5
    refine Wp.vc 400 [] rfl ?_
    refine Wp.callR (j := 0) rfl (Nat.le_of_ble_eq_true rfl) ⟨true, Z5.tm⟩ (m_readPart (d := d + 2) (k := 36) (lo := 0) (hi := 23) Z5 (by decide) (xwk (by decide) (by decide))) (fun v h6 q => ?_)
    obtain ⟨⟨z2, rfl, -⟩, Z6, p6⟩ := q
    have Z6 : MZ K h6 (.inr f) := Z6
    refine Wp.vc 400 [] rfl ?_
    refine Wp.callR (j := 0) rfl (Nat.le_of_ble_eq_true rfl) ⟨true, Z6.tm⟩ (m_readPart (d := d + 2) (k := 37) (lo := z2) (hi := 23) Z6 (by decide) (xwk (by decide) (by decide))) (fun v h7 q => ?_)
    obtain ⟨⟨z3, rfl, -⟩, Z7, p7⟩ := q
    have Z7 : MZ K h7 (.inr f) := Z7
    have a := over61 h7 f [some (.inl z1), some (.inl z2), some (.inl z3)] er Z7 (((p4.trans p5).trans p6).trans p7)
    refine Wp.vc 400 [61] rfl ?_
    exact a
  have eL : lOpen (kt K) (kn K) P l = rb (rb (rb (.inl l) (rBegins (kt K) (kn K) True (pT P))) (rHere P)) (fun h => if thv (pT P) 9 h.1 = 0 then rb (rAft (kt K) (kn K) (cw 36) 0 23 (ga (kt K) (kn K) h.2)) fun a => rb (rAft (kt K) (kn K) (cw 37) a.1 23 a.2) fun b => .inl ((scp (hvp (hvp (hvp (pT P) 4 h.1 a.1) 5 h.1 b.1) 9 h.1 1) 3 (tsc (pT P) 3 + 1), P.2), b.2) else .inr (3, la h.2)) := (rb_rb _ _ _).symm
  refine WpM.of rfl (Wp.vc 400 [] rfl ?_)
  refine Wp.callR (j := 0) rfl (Nat.le_of_ble_eq_true rfl) ⟨true, tm⟩ (m_lineBegins (d := d + 7) (can := True) Z R ⟨fun _ => by decide, fun _ => trivial⟩ (fun l' e => by cases e; rw [e2]; decide)) (fun v h1 q => ?_)
  obtain ⟨rfl, Z1, p1⟩ := q
  refine Wp.vc 400 [] rfl ?_
  refine Wp.callR (j := 0) rfl (Nat.le_of_ble_eq_true rfl) ⟨true, Z1.tm⟩ (m_knownHouse (d := d + 2) Z1 (R.keep p1 Z) I) (fun v h2 q => ?_)
  obtain ⟨⟨z1, rfl, hz1⟩, Z2, p2⟩ := q
  generalize hr1 : rb (rb (.inl l) (rBegins (kt K) (kn K) True (pT P))) (rHere P) = r1 at *
  have pp := p1.trans p2
  have tm2 := Z2.tm
  cases r1 with
  | inr f =>
    have f75 := Z2.2.1.1
    have a := over35 h2 f z1 eL Z2 pp
    refine Wp.vc 400 [35] rfl ?_
    rw [f75]
    exact ⟨isF tm2 rfl, fun _ => a, fun w => absurd rfl w⟩
  | inl hq =>
  have hz1 := hz1 hq rfl
  obtain ⟨l0, hh⟩ := here_inl hr1
  obtain ⟨k0, el0, i0⟩ := rHere_inv hh I.1.1
  obtain ⟨i, l1⟩ := hq
  have el0 : l1 = l0 := el0
  subst el0
  have i0 : 0 ≤ i ∧ i < tnh (pT P) := i0
  have hz1 : z1 = i := hz1
  subst hz1
  have Z2 : MZ K h2 (.inl l1) := Z2
  have eL : lOpen (kt K) (kn K) P l = if thv (pT P) 9 z1 = 0 then rb (rAft (kt K) (kn K) (cw 36) 0 23 (ga (kt K) (kn K) l1)) fun a => rb (rAft (kt K) (kn K) (cw 37) a.1 23 a.2) fun b => .inl ((scp (hvp (hvp (hvp (pT P) 4 z1 a.1) 5 z1 b.1) 9 z1 1) 3 (tsc (pT P) 3 + 1), P.2), b.2) else .inr (3, la l1) := eL
  have R2 := R.keep pp Z
  have y2 := R2.1.2.1
  have it := m_isTimedP (d := d + 9) (i := z1) R2.1 R2.2 I i0
  have ne2 := Z2.ne5
  refine Wp.vc 400 [35] rfl ?_
  refine ⟨isF tm2 rfl, fun w => absurd w ne2, fun _ => ⟨isF tm2 rfl, ?_⟩⟩
  refine Wp.callE (j := 0) rfl (Nat.le_of_ble_eq_true rfl) ⟨true, y2⟩ it ?_
  by_cases n9 : thv (pT P) 9 z1 = 0
  · rw [if_pos n9] at eL ⊢
    refine Wp.vc 400 [35] rfl ?_
    refine ⟨fun _ => ?_, fun w => absurd rfl w⟩
    refine Wp.vc 400 [] rfl ?_
    refine Wp.callR (j := 0) rfl (Nat.le_of_ble_eq_true rfl) ⟨true, tm2⟩ (m_goesOn (d := d + 8) Z2 (fun l' e => by cases e; rw [k0]; decide)) (fun v h3 q => ?_)
    obtain ⟨rfl, Z3, p3⟩ := q
    have Z3 : MZ K h3 (.inl (ga (kt K) (kn K) l1)) := Z3
    refine Wp.vc 400 [] rfl ?_
    refine Wp.callR (j := 0) rfl (Nat.le_of_ble_eq_true rfl) ⟨true, Z3.tm⟩ (m_readPart (d := d + 2) (k := 36) (lo := 0) (hi := 23) Z3 (by decide) (xwk (by decide) (by decide))) (fun v h4 q => ?_)
    obtain ⟨⟨z2, rfl, hz2⟩, Z4, p4⟩ := q
    have Z4 : MZ K h4 (rsnd (rAft (kt K) (kn K) (cw 36) 0 23 (ga (kt K) (kn K) l1))) := Z4
    have hz2 : ∀ q, rAft (kt K) (kn K) (cw 36) 0 23 (ga (kt K) (kn K) l1) = .inl q → z2 = q.1 := hz2
    refine Wp.vc 400 [] rfl ?_
    refine Wp.callR (j := 0) rfl (Nat.le_of_ble_eq_true rfl) ⟨true, Z4.tm⟩ (m_readPart (d := d + 2) (k := 37) (lo := z2) (hi := 23) Z4 (by decide) (xwk (by decide) (by decide))) (fun v h6 q => ?_)
    obtain ⟨⟨z3, rfl, hz3⟩, Z6, p5⟩ := q
    have pp := ((pp.trans p3).trans p4).trans p5
    refine Wp.vc 400 [61] rfl ?_
    generalize hr2 : rAft (kt K) (kn K) (cw 36) 0 23 (ga (kt K) (kn K) l1) = r2 at *
    generalize hr3 : rb (rsnd r2) (rAft (kt K) (kn K) (cw 37) z2 23) = r3 at *
    clear Z4 Z3 p1 p2 p3 p4 p5 hr1 hh it
    cases r2 with
    | inr f =>
      subst hr3
      exact over61 h6 f _ eL Z6 pp
    | inl a =>
    have hza := hz2 a rfl
    have eL : lOpen (kt K) (kn K) P l = rb r3 (fun b => .inl ((scp (hvp (hvp (hvp (pT P) 4 z1 a.1) 5 z1 b.1) 9 z1 1) 3 (tsc (pT P) 3 + 1), P.2), b.2)) := by
      rw [eL, ← hr3, hza]
      rfl
    cases r3 with
    | inr f => exact over61 h6 f _ eL Z6 pp
    | inl b =>
    have hzb := hz3 b rfl
    have Z6 : MZ K h6 (.inl b.2) := Z6
    have ok := lOpen_ok (tp := kt K) (n := kn K) (q := ((scp (hvp (hvp (hvp (pT P) 4 z1 a.1) 5 z1 b.1) 9 z1 1) 3 (tsc (pT P) 3 + 1), P.2), b.2)) eL I.1 (Z.2.2 l rfl)
    have lt : le_ l < le_ b.2 := ok.2.2
    obtain ⟨R6Y, R6F⟩ := R.keep pp Z
    obtain ⟨t, ht⟩ : ∃ t, t = xfl h6 (ks K) 70 := ⟨_, rfl⟩
    rw [← ht] at R6Y R6F
    have y := R6Y
    obtain ⟨⟨y0, y1⟩, y2, y3, y4, -⟩ := y
    have e147 : xfl h6 t 147 = t + 5 := y3 147 (by decide) (by decide)
    have e148 : xfl h6 t 148 = t + 6 := y3 148 (by decide) (by decide)
    have g137 : xfl h6 t 137 = tsc (pT P) 3 := R6F.1.2.2.2.1
    have tm6 := Z6.tm
    have ne6 := Z6.ne5
    have fr : FrTw K h6 (xputf (xputa (xputa h6 (t + 5) z1 z2) (t + 6) z1 z3) t 137 (tsc (pT P) 3 + 1)) := (((FrTw.refl h6).a (by omega)).a (by omega)).f y0 (by decide)
    have l6 := (Z.2.2 l rfl).1
    have n11 := Z.1.2.2.2.1
    have s3 := I.1.2.2.2.2.2.1.1
    obtain ⟨T, hT⟩ : ∃ T, T = scp (hvp (hvp (hvp (pT P) 4 z1 a.1) 5 z1 b.1) 9 z1 1) 3 (tsc (pT P) 3 + 1) := ⟨_, rfl⟩
    have hv : ∀ q j, ¬ ((q = 4 ∨ q = 5 ∨ q = 9) ∧ j = z1) → thv T q j = thv (pT P) q j := fun q j w => by
      rw [hT]
      show (if q = 9 ∧ j = z1 then _ else if q = 5 ∧ j = z1 then _ else if q = 4 ∧ j = z1 then _ else thv (pT P) q j) = _
      rw [if_neg (by omega), if_neg (by omega), if_neg (by omega)]
    have h4 : thv T 4 z1 = a.1 ∧ thv T 5 z1 = b.1 ∧ thv T 9 z1 = 1 := by
      rw [hT]
      simp [hvp, scp, thv]
    have s : ∀ k, k ≠ 3 → tsc T k = tsc (pT P) k := fun k w => by rw [hT]; exact if_neg w
    have sk : tsc T 3 = tsc (pT P) 3 + 1 := by rw [hT]; rfl
    have tt : T.2.2 = (pT P).2.2 := by rw [hT]; rfl
    have F : MTf (xputf (xputa (xputa h6 (t + 5) z1 z2) (t + 6) z1 z3) t 137 (tsc (pT P) 3 + 1)) t (T, P.2) (le_ b.2) := by
      obtain ⟨⟨g1, g2, g3, g4, g5, g6, g7, g8⟩, ⟨g9, g10, g11⟩, FH, FS, FP, FG, FN, FM⟩ := R6F
      have fx : ∀ f, f ≠ 137 → xfl (xputf (xputa (xputa h6 (t + 5) z1 z2) (t + 6) z1 z3) t 137 (tsc (pT P) 3 + 1)) t f = xfl h6 t f := fun f w => by rw [pf_ne w]; rfl
      have ax : ∀ c i, c ≠ 5 → c ≠ 6 → xar (xputf (xputa (xputa h6 (t + 5) z1 z2) (t + 6) z1 z3) t 137 (tsc (pT P) 3 + 1)) (t + c) i = xar h6 (t + c) i := fun c i w w2 => by rw [xar_putf, pa_ne (by omega), pa_ne (by omega)]
      refine ⟨⟨(fx _ (by decide)).trans (g1.trans (s _ (by decide)).symm), (fx _ (by decide)).trans (g2.trans (s _ (by decide)).symm), (fx _ (by decide)).trans (g3.trans (s _ (by decide)).symm), pf_eq.trans sk.symm, (fx _ (by decide)).trans (g5.trans (s _ (by decide)).symm), (fx _ (by decide)).trans (g6.trans (s _ (by decide)).symm), (fx _ (by decide)).trans (g7.trans (s _ (by decide)).symm), (fx _ (by decide)).trans (g8.trans (s _ (by decide)).symm)⟩, ⟨(fx _ (by decide)).trans g9, by rw [fx _ (by decide)]; exact g10, by rw [fx _ (by decide)]; omega⟩, fun j j0 j1 => ?_, fun i j i0 i1 j0 j1 => ?_, fun j j0 j1 => ?_, fun k q hq => ?_, fun k q hq => ?_, fun k q hq => ?_⟩
      · show _ = thv T 0 j ∧ _ = thv T 1 j ∧ _ = thv T 2 j ∧ _ = thv T 3 j ∧ ((thv T 9 j = 0 ∧ _ = -1) ∨ (thv T 9 j = 1 ∧ _ = thv T 4 j ∧ _ = thv T 5 j)) ∧ _ = thv T 6 j
        have j1 : j < tnh (pT P) := by rw [← show tnh T = tnh (pT P) from s 2 (by decide)]; exact j1
        rw [ax 1 _ (by decide) (by decide), ax 2 _ (by decide) (by decide), ax 3 _ (by decide) (by decide), ax 4 _ (by decide) (by decide), ax 7 _ (by decide) (by decide), hv 0 j (by omega), hv 1 j (by omega), hv 2 j (by omega), hv 3 j (by omega), hv 6 j (by omega), xar_putf, pa_ne (a := t + 5) (by omega), pa_eq, pa_eq, pa_ne (a := t + 6) (by omega)]
        obtain ⟨x1, x2, x3, x4, x5, x6⟩ := FH j j0 j1
        refine ⟨x1, x2, x3, x4, ?_, x6⟩
        by_cases q : j = z1
        · rw [if_pos q, if_pos q, q, h4.1, h4.2.1, h4.2.2]
          exact Or.inr ⟨rfl, hza, hzb⟩
        · rw [if_neg q, if_neg q, hv 9 j (by omega), hv 4 j (by omega), hv 5 j (by omega)]
          exact x5
      · rw [ax 8 _ (by decide) (by decide)]
        exact (FS i j i0 i1 j0 j1).trans (show tst (pT P) i j = tst T i j by unfold tst; rw [tt])
      · rw [ax 9 _ (by decide) (by decide), ax 10 _ (by decide) (by decide)]
        show _ = thv T 7 j ∧ _ = thv T 8 j
        rw [hv 7 j (by omega), hv 8 j (by omega)]
        exact FP j j0 (by rw [← show tpm T = tpm (pT P) from s 5 (by decide)]; exact j1)
      · rw [ax 11 _ (by decide) (by decide), ax 14 _ (by decide) (by decide)]
        exact FG k q (by rw [← show tsig T = tsig (pT P) by unfold tsig tnt; rw [tt]]; exact hq)
      · rw [ax 12 _ (by decide) (by decide), ax 13 _ (by decide) (by decide)]
        exact FN k q (by rw [← show tnoi T = tnoi (pT P) by unfold tnoi tnt; rw [tt]]; exact hq)
      · rw [ax 15 _ (by decide) (by decide), ax 16 _ (by decide) (by decide), ax 17 _ (by decide) (by decide)]
        exact FM k q hq
    rw [hT] at F
    have fin := MLin.live (P := P) (e := le_ l) eL Z6 pp fr R6Y ht.symm F
    clear hT h4 hv s sk tt F
    refine Wp.vc 400 [] rfl ?_
    simp only [xfl_puta, ← ht, e147, e148, g137]
    exact ⟨isF tm6 rfl, fun _ => ⟨isF tm6 rfl, isF y2 rfl, isB (y4 5 (by decide)) i0.1 (by omega), isF tm6 rfl, isF y2 rfl, isB (y4 6 (by decide)) i0.1 (by omega), isF tm6 rfl, isF y2 rfl, ⟨by omega, by omega⟩, isW y2 rfl, trivial, fin⟩, fun w => absurd ne6 w⟩
  · rw [if_neg n9] at eL ⊢
    refine Wp.vc 400 [35] rfl ?_
    refine ⟨fun w => absurd w (by decide), fun _ => ?_⟩
    refine Wp.callR (j := 0) rfl (Nat.le_of_ble_eq_true rfl) ⟨true, tm2⟩ (m_flaw (d := d + 9) Z2) (fun v h3 q => ?_)
    obtain ⟨rfl, Z3, p3⟩ := q
    exact over35 h3 _ z1 eL Z3 (pp.trans p3)
