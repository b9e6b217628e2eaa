/-! WALKS, 89: the model's reader: signs, noises -/
set_option maxRecDepth 100000
set_option maxHeartbeats 4000000
theorem MTf.sign {h g : XH} {t e e' : Int} {P : PT} {q : Int × Int × Int} (F : MTf h t P e) (he : e ≤ e') (hq : q.2.1 = 0) (hl : tsc (pT P) 6 = ((tsig (pT P)).length : Int))
    (sc : ∀ f, 133 ≤ f → f ≤ 142 → f ≠ 140 → xfl g t f = xfl h t f) (fk : xfl g t 140 = tsc (pT P) 6 + 1)
    (aA : ∀ i, xar g (t + 11) i = if i = tsc (pT P) 6 then q.1 else xar h (t + 11) i) (aB : ∀ i, xar g (t + 14) i = if i = tsc (pT P) 6 then q.2.2 else xar h (t + 14) i)
    (ao : ∀ c : Int, 1 ≤ c → c ≤ 17 → c ≠ 11 → c ≠ 14 → ∀ i, xar g (t + c) i = xar h (t + c) i) : MTf g t (scp (ntp (pT P) q) 6 (tsc (pT P) 6 + 1), P.2) e' := by
  obtain ⟨⟨g1, g2, g3, g4, g5, g6, g7, g8⟩, ⟨g9, g10, g11⟩, FH, FS, FP, FG, FN, FM⟩ := F
  have es : tsig (scp (ntp (pT P) q) 6 (tsc (pT P) 6 + 1)) = tsig (pT P) ++ [q] := by
    show ((tnt (pT P) ++ [q]).filter fun q => q.2.1 == 0) = _
    rw [List.filter_append]
    show tsig (pT P) ++ [q].filter _ = _
    rw [List.filter_cons, if_pos (by rw [hq]; rfl)]
    rfl
  have eo : tnoi (scp (ntp (pT P) q) 6 (tsc (pT P) 6 + 1)) = tnoi (pT P) := by
    show ((tnt (pT P) ++ [q]).filter fun q => q.2.1 == 1) = _
    rw [List.filter_append]
    show tnoi (pT P) ++ [q].filter _ = _
    rw [List.filter_cons, if_neg (by rw [hq]; decide)]
    exact List.append_nil _
  refine ⟨⟨(sc _ (by decide) (by decide) (by decide)).trans g1, (sc _ (by decide) (by decide) (by decide)).trans g2, (sc _ (by decide) (by decide) (by decide)).trans g3, (sc _ (by decide) (by decide) (by decide)).trans g4, (sc _ (by decide) (by decide) (by decide)).trans g5, (sc _ (by decide) (by decide) (by decide)).trans g6, fk, (sc _ (by decide) (by decide) (by decide)).trans g8⟩, ⟨(sc _ (by decide) (by decide) (by decide)).trans g9, by rw [sc _ (by decide) (by decide) (by decide)]; exact g10, by rw [sc _ (by decide) (by decide) (by decide)]; omega⟩, fun i i0 i1 => ?_, fun i j i0 i1 j0 j1 => (ao 8 (by decide) (by decide) (by decide) (by decide) _).trans (FS i j i0 i1 j0 j1), fun i i0 i1 => ?_, fun k q' hk' => ?_, fun k q' hk' => ?_, fun k q' hk' => ?_⟩
  · rw [ao 1 (by decide) (by decide) (by decide) (by decide), ao 2 (by decide) (by decide) (by decide) (by decide), ao 3 (by decide) (by decide) (by decide) (by decide), ao 4 (by decide) (by decide) (by decide) (by decide), ao 5 (by decide) (by decide) (by decide) (by decide), ao 6 (by decide) (by decide) (by decide) (by decide), ao 7 (by decide) (by decide) (by decide) (by decide)]
    exact FH i i0 i1
  · rw [ao 9 (by decide) (by decide) (by decide) (by decide), ao 10 (by decide) (by decide) (by decide) (by decide)]
    exact FP i i0 i1
  · have hk' : (tsig (scp (ntp (pT P) q) 6 (tsc (pT P) 6 + 1)))[k]? = some q' := hk'
    rw [es] at hk'
    rw [aA, aB]
    rcases getE_app hk' with ⟨lt, q1⟩ | ⟨e1, rfl⟩
    · rw [if_neg (by omega), if_neg (by omega)]
      exact FG k q' q1
    · rw [if_pos (by omega), if_pos (by omega)]
      exact ⟨rfl, rfl⟩
  · have hk' : (tnoi (scp (ntp (pT P) q) 6 (tsc (pT P) 6 + 1)))[k]? = some q' := hk'
    rw [eo] at hk'
    rw [ao 12 (by decide) (by decide) (by decide) (by decide), ao 13 (by decide) (by decide) (by decide) (by decide)]
    exact FN k q' hk'
  · rw [ao 15 (by decide) (by decide) (by decide) (by decide), ao 16 (by decide) (by decide) (by decide) (by decide), ao 17 (by decide) (by decide) (by decide) (by decide)]
    exact FM k q' hk'
theorem m_readSign {d : Nat} {K : XX} {h : XH} {l : LTk} {P : PT} (Z : MZ K h (.inl l)) (R : MRt K h P (le_ l)) (I : MI P (le_ l)) (e2 : lk l = 2) : WpM (d + 10) 170 [.inr (.inr (ks K))] h (MLin K h P (le_ l) (lSign (kt K) (kn K) P l)) := by
  have tm := Z.tm
  have tt := R.1.2.1
  have fk := R.2.1.2.2.2.2.2.2.1
  have cn := I.1.2.2.2.2.2.2.2.2.2.2.2.1
  have over : ∀ h4 f ls, lSign (kt K) (kn K) P l = .inr f → MZ K h4 (.inr f) → FrM (ks K) h h4 → Wp (d + 10) 170 23 (some (.inr (.inr (ks K))) :: ls) [] h4 (MLin K h P (le_ l) (lSign (kt K) (kn K) P l)) := by
    intro h4 f ls er Z4 p4
    have f75 := Z4.2.1.1
    refine Wp.vc 400 [32] rfl ?_
    rw [f75]
    exact ⟨isF Z4.tm rfl, fun w => absurd rfl w, fun _ => ⟨trivial, MLin.over Z R er Z4 p4⟩⟩
  have eL : lSign (kt K) (kn K) P l = rb (rb (rb (.inl l) (rBegins (kt K) (kn K) (tsc (pT P) 6 < 8) (pT P))) (rHouse (kt K) (kn K) P)) (fun h => rb (rWord (kt K) (kn K) h.2) fun w => .inl ((scp (ntp (pT P) (h.1, 0, xpack w.1)) 6 (tsc (pT P) 6 + 1), P.2), w.2)) := (rb_rb _ _ _).symm
  refine WpM.of rfl (Wp.vc 400 [] rfl ?_)
  rw [fk]
  refine ⟨isF tm rfl, isF tt rfl, ?_⟩
  refine Wp.callR (j := 0) rfl (Nat.le_of_ble_eq_true rfl) ⟨true, tm⟩ (m_lineBegins (d := d + 7) (can := tsc (pT P) 6 < 8) Z R ⟨fun w q => (by omega), fun w => (by omega)⟩ (fun l' e => by cases e; rw [e2]; decide)) (fun v h1 q => ?_)
  obtain ⟨rfl, Z1, p1⟩ := q
  refine Wp.vc 400 [] rfl ?_
  refine Wp.callR (j := 0) rfl (Nat.le_of_ble_eq_true rfl) ⟨true, Z1.tm⟩ (m_readHouse (d := d + 1) Z1 (R.keep p1 Z) I) (fun v h2 q => ?_)
  obtain ⟨⟨z1, rfl, hz1⟩, Z2, p2⟩ := q
  generalize rb (rb (.inl l) (rBegins (kt K) (kn K) (tsc (pT P) 6 < 8) (pT P))) (rHouse (kt K) (kn K) P) = r1 at *
  have pp := p1.trans p2
  refine Wp.vc 400 [] rfl ?_
  refine Wp.callR (j := 0) rfl (Nat.le_of_ble_eq_true rfl) ⟨true, Z2.tm⟩ (m_readWord (d := d + 7) Z2) (fun v h4 q => ?_)
  obtain ⟨⟨z2, rfl, hz2⟩, Z7, p3⟩ := q
  generalize hr2 : rb (rsnd r1) (rWord (kt K) (kn K)) = r2 at *
  have pp := pp.trans p3
  clear p1 p2 p3 Z1 Z2
  refine Wp.vc 400 [23] rfl ?_
  cases r1 with
  | inr f =>
    subst hr2
    exact over h4 f _ eL Z7 pp
  | inl a =>
  have hz1 := hz1 a rfl
  have eL : lSign (kt K) (kn K) P l = rb r2 (fun b => .inl ((scp (ntp (pT P) (a.1, 0, xpack b.1)) 6 (tsc (pT P) 6 + 1), P.2), b.2)) := by rw [eL, ← hr2]; rfl
  cases r2 with
  | inr f => exact over h4 f _ eL Z7 pp
  | inl b =>
  have hz2 := hz2 b rfl
  have ne : xfl h4 (ks K) 75 ≠ 5 := fun w => by
    obtain ⟨f, w⟩ := Z7.s5.mp w
    cases w
  have ok := lSign_ok (tp := kt K) (n := kn K) (q := ((scp (ntp (pT P) (a.1, 0, xpack b.1)) 6 (tsc (pT P) 6 + 1), P.2), b.2)) eL I.1 (Z.2.2 l rfl)
  have lt : le_ l < le_ b.2 := ok.2.2
  have n8 : tsc (pT P) 6 < 8 := by
    have c := ok.1.2.2.2.2.2.2.2.2.2.2.2.1.2.2.1
    have c : tsc (pT P) 6 + 1 ≤ 8 := c
    omega
  obtain ⟨R7Y, R7F⟩ := R.keep pp Z
  obtain ⟨t, ht⟩ : ∃ t, t = xfl h4 (ks K) 70 := ⟨_, rfl⟩
  rw [← ht] at R7Y R7F
  have y := R7Y
  obtain ⟨⟨y0, y1⟩, y2, y3, y4, y7, y8, ⟨y9, y10⟩, y11, ⟨y12, y13⟩, y14, -⟩ := y
  have zz := Z7.1.1
  have tm7 := Z7.tm
  have gk : xfl h4 t 140 = tsc (pT P) 6 := R7F.1.2.2.2.2.2.2.1
  have fr : FrTw K h4 (xputf (xputa (xputa h4 (t + 11) (tsc (pT P) 6) z1) (t + 14) (tsc (pT P) 6) z2) t 140 (tsc (pT P) 6 + 1)) := (((FrTw.refl h4).a (by omega)).a (by omega)).f y0 (by decide)
  have F : MTf (xputf (xputa (xputa h4 (t + 11) (tsc (pT P) 6) z1) (t + 14) (tsc (pT P) 6) z2) t 140 (tsc (pT P) 6 + 1)) t (scp (ntp (pT P) (a.1, 0, xpack b.1)) 6 (tsc (pT P) 6 + 1), P.2) (le_ b.2) := by
    rw [hz1, hz2]
    refine R7F.sign (by omega) rfl (by omega) (fun f f0 f1 f2 => ?_) pf_eq ?_ ?_ ?_
    · rw [pf_ne f2]
      rfl
    all_goals (intros; repeat (first | rw [xar_putf] | rw [pa_ne (by omega)] | rw [pa_eq]))
  have fin := MLin.live (P := P) (e := le_ l) eL Z7 pp fr R7Y ht.symm F
  have e1 : xfl h4 t 153 = t + 11 := y3 153 (by decide) (by decide)
  have e2 : xfl h4 t 156 = t + 14 := y3 156 (by decide) (by decide)
  refine Wp.vc 400 [] rfl ?_
  simp only [xfl_puta, ← ht, e1, e2, gk]
  exact ⟨isF tm7 rfl, fun _ => ⟨isF tm7 rfl, isF y2 rfl, isF tm7 rfl, isF y2 rfl, isB y11 (by omega) n8, isF tm7 rfl, isF y2 rfl, isF tm7 rfl, isF y2 rfl, isB y14 (by omega) n8, isF tm7 rfl, isF y2 rfl, ⟨by omega, by omega⟩, isW y2 rfl, trivial, fin⟩, fun w => absurd ne w⟩
theorem MTf.noise {h g : XH} {t e e' : Int} {P : PT} {q : Int × Int × Int} (F : MTf h t P e) (he : e ≤ e') (hq : q.2.1 = 1) (hl : tsc (pT P) 7 = ((tnoi (pT P)).length : Int))
    (sc : ∀ f, 133 ≤ f → f ≤ 142 → f ≠ 141 → xfl g t f = xfl h t f) (fk : xfl g t 141 = tsc (pT P) 7 + 1)
    (aA : ∀ i, xar g (t + 12) i = if i = tsc (pT P) 7 then q.1 else xar h (t + 12) i) (aB : ∀ i, xar g (t + 13) i = if i = tsc (pT P) 7 then q.2.2 else xar h (t + 13) i)
    (ao : ∀ c : Int, 1 ≤ c → c ≤ 17 → c ≠ 12 → c ≠ 13 → ∀ i, xar g (t + c) i = xar h (t + c) i) : MTf g t (scp (ntp (pT P) q) 7 (tsc (pT P) 7 + 1), P.2) e' := by
  obtain ⟨⟨g1, g2, g3, g4, g5, g6, g7, g8⟩, ⟨g9, g10, g11⟩, FH, FS, FP, FG, FN, FM⟩ := F
  have es : tnoi (scp (ntp (pT P) q) 7 (tsc (pT P) 7 + 1)) = tnoi (pT P) ++ [q] := by
    show ((tnt (pT P) ++ [q]).filter fun q => q.2.1 == 1) = _
    rw [List.filter_append]
    show tnoi (pT P) ++ [q].filter _ = _
    rw [List.filter_cons, if_pos (by rw [hq]; rfl)]
    rfl
  have eo : tsig (scp (ntp (pT P) q) 7 (tsc (pT P) 7 + 1)) = tsig (pT P) := by
    show ((tnt (pT P) ++ [q]).filter fun q => q.2.1 == 0) = _
    rw [List.filter_append]
    show tsig (pT P) ++ [q].filter _ = _
    rw [List.filter_cons, if_neg (by rw [hq]; decide)]
    exact List.append_nil _
  refine ⟨⟨(sc _ (by decide) (by decide) (by decide)).trans g1, (sc _ (by decide) (by decide) (by decide)).trans g2, (sc _ (by decide) (by decide) (by decide)).trans g3, (sc _ (by decide) (by decide) (by decide)).trans g4, (sc _ (by decide) (by decide) (by decide)).trans g5, (sc _ (by decide) (by decide) (by decide)).trans g6, (sc _ (by decide) (by decide) (by decide)).trans g7, fk⟩, ⟨(sc _ (by decide) (by decide) (by decide)).trans g9, by rw [sc _ (by decide) (by decide) (by decide)]; exact g10, by rw [sc _ (by decide) (by decide) (by decide)]; omega⟩, fun i i0 i1 => ?_, fun i j i0 i1 j0 j1 => (ao 8 (by decide) (by decide) (by decide) (by decide) _).trans (FS i j i0 i1 j0 j1), fun i i0 i1 => ?_, fun k q' hk' => ?_, fun k q' hk' => ?_, fun k q' hk' => ?_⟩
  · rw [ao 1 (by decide) (by decide) (by decide) (by decide), ao 2 (by decide) (by decide) (by decide) (by decide), ao 3 (by decide) (by decide) (by decide) (by decide), ao 4 (by decide) (by decide) (by decide) (by decide), ao 5 (by decide) (by decide) (by decide) (by decide), ao 6 (by decide) (by decide) (by decide) (by decide), ao 7 (by decide) (by decide) (by decide) (by decide)]
    exact FH i i0 i1
  · rw [ao 9 (by decide) (by decide) (by decide) (by decide), ao 10 (by decide) (by decide) (by decide) (by decide)]
    exact FP i i0 i1
  · have hk' : (tsig (scp (ntp (pT P) q) 7 (tsc (pT P) 7 + 1)))[k]? = some q' := hk'
    rw [eo] at hk'
    rw [ao 11 (by decide) (by decide) (by decide) (by decide), ao 14 (by decide) (by decide) (by decide) (by decide)]
    exact FG k q' hk'
  · have hk' : (tnoi (scp (ntp (pT P) q) 7 (tsc (pT P) 7 + 1)))[k]? = some q' := hk'
    rw [es] at hk'
    rw [aA, aB]
    rcases getE_app hk' with ⟨lt, q1⟩ | ⟨e1, rfl⟩
    · rw [if_neg (by omega), if_neg (by omega)]
      exact FN k q' q1
    · rw [if_pos (by omega), if_pos (by omega)]
      exact ⟨rfl, rfl⟩
  · rw [ao 15 (by decide) (by decide) (by decide) (by decide), ao 16 (by decide) (by decide) (by decide) (by decide), ao 17 (by decide) (by decide) (by decide) (by decide)]
    exact FM k q' hk'
theorem m_readNoise {d : Nat} {K : XX} {h : XH} {l : LTk} {P : PT} (Z : MZ K h (.inl l)) (R : MRt K h P (le_ l)) (I : MI P (le_ l)) (e2 : lk l = 2) : WpM (d + 10) 171 [.inr (.inr (ks K))] h (MLin K h P (le_ l) (lNoise (kt K) (kn K) P l)) := by
  have tm := Z.tm
  have tt := R.1.2.1
  have fk := R.2.1.2.2.2.2.2.2.2
  have cn := I.1.2.2.2.2.2.2.2.2.2.2.2.1
  have over : ∀ h4 f ls, lNoise (kt K) (kn K) P l = .inr f → MZ K h4 (.inr f) → FrM (ks K) h h4 → Wp (d + 10) 171 25 (some (.inr (.inr (ks K))) :: ls) [] h4 (MLin K h P (le_ l) (lNoise (kt K) (kn K) P l)) := by
    intro h4 f ls er Z4 p4
    have f75 := Z4.2.1.1
    refine Wp.vc 400 [34] rfl ?_
    rw [f75]
    exact ⟨isF Z4.tm rfl, fun w => absurd rfl w, fun _ => ⟨trivial, MLin.over Z R er Z4 p4⟩⟩
  have eL : lNoise (kt K) (kn K) P l = rb (rb (rb (.inl l) (rBegins (kt K) (kn K) (tsc (pT P) 7 < 4) (pT P))) (rHouse (kt K) (kn K) P)) (fun h => rb (rNum (kt K) (kn K) 1 9 h.2) fun r => .inl ((scp (ntp (pT P) (h.1, 1, r.1)) 7 (tsc (pT P) 7 + 1), P.2), r.2)) := (rb_rb _ _ _).symm
  refine WpM.of rfl (Wp.vc 400 [] rfl ?_)
  rw [fk]
  refine ⟨isF tm rfl, isF tt rfl, ?_⟩
  refine Wp.callR (j := 0) rfl (Nat.le_of_ble_eq_true rfl) ⟨true, tm⟩ (m_lineBegins (d := d + 7) (can := tsc (pT P) 7 < 4) Z R ⟨fun w q => (by omega), fun w => (by omega)⟩ (fun l' e => by cases e; rw [e2]; decide)) (fun v h1 q => ?_)
  obtain ⟨rfl, Z1, p1⟩ := q
  refine Wp.vc 400 [] rfl ?_
  refine Wp.callR (j := 0) rfl (Nat.le_of_ble_eq_true rfl) ⟨true, Z1.tm⟩ (m_readHouse (d := d + 1) Z1 (R.keep p1 Z) I) (fun v h2 q => ?_)
  obtain ⟨⟨z1, rfl, hz1⟩, Z2, p2⟩ := q
  generalize rb (rb (.inl l) (rBegins (kt K) (kn K) (tsc (pT P) 7 < 4) (pT P))) (rHouse (kt K) (kn K) P) = r1 at *
  have pp := p1.trans p2
  refine Wp.vc 400 [] rfl ?_
  refine Wp.callR (j := 0) rfl (Nat.le_of_ble_eq_true rfl) ⟨true, Z2.tm⟩ (m_readWhole (d := d + 7) (lo := 1) (hi := 9) Z2) (fun v h4 q => ?_)
  obtain ⟨⟨z2, rfl, hz2⟩, Z7, p3⟩ := q
  generalize hr2 : rb (rsnd r1) (rNum (kt K) (kn K) 1 9) = r2 at *
  have pp := pp.trans p3
  clear p1 p2 p3 Z1 Z2
  refine Wp.vc 400 [25] rfl ?_
  cases r1 with
  | inr f =>
    subst hr2
    exact over h4 f _ eL Z7 pp
  | inl a =>
  have hz1 := hz1 a rfl
  have eL : lNoise (kt K) (kn K) P l = rb r2 (fun b => .inl ((scp (ntp (pT P) (a.1, 1, b.1)) 7 (tsc (pT P) 7 + 1), P.2), b.2)) := by rw [eL, ← hr2]; rfl
  cases r2 with
  | inr f => exact over h4 f _ eL Z7 pp
  | inl b =>
  have hz2 := hz2 b rfl
  have ne : xfl h4 (ks K) 75 ≠ 5 := fun w => by
    obtain ⟨f, w⟩ := Z7.s5.mp w
    cases w
  have ok := lNoise_ok (tp := kt K) (n := kn K) (q := ((scp (ntp (pT P) (a.1, 1, b.1)) 7 (tsc (pT P) 7 + 1), P.2), b.2)) eL I.1 (Z.2.2 l rfl)
  have lt : le_ l < le_ b.2 := ok.2.2
  have n8 : tsc (pT P) 7 < 4 := by
    have c := ok.1.2.2.2.2.2.2.2.2.2.2.2.1.2.2.2.1
    have c : tsc (pT P) 7 + 1 ≤ 4 := c
    omega
  obtain ⟨R7Y, R7F⟩ := R.keep pp Z
  obtain ⟨t, ht⟩ : ∃ t, t = xfl h4 (ks K) 70 := ⟨_, rfl⟩
  rw [← ht] at R7Y R7F
  have y := R7Y
  obtain ⟨⟨y0, y1⟩, y2, y3, y4, y7, y8, ⟨y9, y10⟩, y11, ⟨y12, y13⟩, y14, -⟩ := y
  have zz := Z7.1.1
  have tm7 := Z7.tm
  have gk : xfl h4 t 141 = tsc (pT P) 7 := R7F.1.2.2.2.2.2.2.2
  have fr : FrTw K h4 (xputf (xputa (xputa h4 (t + 12) (tsc (pT P) 7) z1) (t + 13) (tsc (pT P) 7) z2) t 141 (tsc (pT P) 7 + 1)) := (((FrTw.refl h4).a (by omega)).a (by omega)).f y0 (by decide)
  have F : MTf (xputf (xputa (xputa h4 (t + 12) (tsc (pT P) 7) z1) (t + 13) (tsc (pT P) 7) z2) t 141 (tsc (pT P) 7 + 1)) t (scp (ntp (pT P) (a.1, 1, b.1)) 7 (tsc (pT P) 7 + 1), P.2) (le_ b.2) := by
    rw [hz1, hz2]
    refine R7F.noise (by omega) rfl (by omega) (fun f f0 f1 f2 => ?_) pf_eq ?_ ?_ ?_
    · rw [pf_ne f2]
      rfl
    all_goals (intros; repeat (first | rw [xar_putf] | rw [pa_ne (by omega)] | rw [pa_eq]))
  have fin := MLin.live (P := P) (e := le_ l) eL Z7 pp fr R7Y ht.symm F
  have e1 : xfl h4 t 154 = t + 12 := y3 154 (by decide) (by decide)
  have e2 : xfl h4 t 155 = t + 13 := y3 155 (by decide) (by decide)
  refine Wp.vc 400 [] rfl ?_
  simp only [xfl_puta, ← ht, e1, e2, gk]
  exact ⟨isF tm7 rfl, fun _ => ⟨isF tm7 rfl, isF y2 rfl, isF tm7 rfl, isF y2 rfl, isB y12 (by omega) n8, isF tm7 rfl, isF y2 rfl, isF tm7 rfl, isF y2 rfl, isB y13 (by omega) n8, isF tm7 rfl, isF y2 rfl, ⟨by omega, by omega⟩, isW y2 rfl, trivial, fin⟩, fun w => absurd ne w⟩
