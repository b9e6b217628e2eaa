/-! WALKS, 88: the model's reader: people, signs, noises -/
set_option maxRecDepth 100000
set_option maxHeartbeats 4000000
theorem MTf.person {h g : XH} {t e e' hm at_ : Int} {P : PT} {w : List Int} (F : MTf h t P e) (he : e ≤ e')
    (sc : ∀ f, 133 ≤ f → f ≤ 141 → f ≠ 139 → xfl g t f = xfl h t f) (f139 : xfl g t 139 = tpm (pT P) + 1) (f142 : xfl g t 142 = ((pN P).length : Int) + 1)
    (a9 : ∀ i, xar g (t + 9) i = if i = tpm (pT P) then hm else xar h (t + 9) i) (a10 : ∀ i, xar g (t + 10) i = if i = tpm (pT P) then at_ else xar h (t + 10) i)
    (ao : ∀ c : Int, 1 ≤ c → c ≤ 14 → c ≠ 9 → c ≠ 10 → ∀ i, xar g (t + c) i = xar h (t + c) i) (n15 : ∀ i, xar g (t + 15) i = if i = ((pN P).length : Int) then xpack w else xar h (t + 15) i) (n16 : ∀ i, xar g (t + 16) i = if i = ((pN P).length : Int) then 1 else xar h (t + 16) i) (n17 : ∀ i, xar g (t + 17) i = if i = ((pN P).length : Int) then tpm (pT P) else xar h (t + 17) i) : MTf g t (addP P w hm at_) e' := by
  obtain ⟨⟨g1, g2, g3, g4, g5, g6, g7, g8⟩, ⟨g9, g10, g11⟩, FH, FS, FP, FG, FN, FM⟩ := F
  obtain ⟨v7, v8⟩ := addP_n (P := P) (w := w) (hm := hm) (at_ := at_)
  refine ⟨⟨(sc _ (by decide) (by decide) (by decide)).trans g1, (sc _ (by decide) (by decide) (by decide)).trans g2, (sc _ (by decide) (by decide) (by decide)).trans g3, (sc _ (by decide) (by decide) (by decide)).trans g4, (sc _ (by decide) (by decide) (by decide)).trans g5, f139, (sc _ (by decide) (by decide) (by decide)).trans g7, (sc _ (by decide) (by decide) (by decide)).trans g8⟩, ⟨?_, ?_, ?_⟩, fun i i0 i1 => ?_, fun i j i0 i1 j0 j1 => (ao 8 (by decide) (by decide) (by decide) (by decide) _).trans (FS i j i0 i1 j0 j1), fun i i0 i1 => ?_, fun k q hq => ?_, fun k q hq => ?_, fun k q hq => ?_⟩
  · rw [f142]
    show _ = (((pN P ++ [(w, 1, tpm (pT P))]).length : Nat) : Int)
    rw [List.length_append]
    show _ = (((pN P).length + 1 : Nat) : Int)
    omega
  · rw [sc _ (by decide) (by decide) (by decide)]
    exact g10
  · rw [sc _ (by decide) (by decide) (by decide)]
    omega
  · rw [ao 1 (by decide) (by decide) (by decide) (by decide), ao 2 (by decide) (by decide) (by decide) (by decide), ao 3 (by decide) (by decide) (by decide) (by decide), ao 4 (by decide) (by decide) (by decide) (by decide), ao 5 (by decide) (by decide) (by decide) (by decide), ao 6 (by decide) (by decide) (by decide) (by decide), ao 7 (by decide) (by decide) (by decide) (by decide)]
    rw [addP_hv (by omega), addP_hv (by omega), addP_hv (by omega), addP_hv (by omega), addP_hv (by omega), addP_hv (by omega), addP_hv (by omega), addP_hv (by omega)]
    exact FH i i0 i1
  · rw [a9, a10]
    by_cases q : i = tpm (pT P)
    · rw [if_pos q, if_pos q, q]
      exact ⟨v7.symm, v8.symm⟩
    · rw [if_neg q, if_neg q, addP_hv (by omega), addP_hv (by omega)]
      exact FP i i0 (by have i1 : i < tpm (pT P) + 1 := i1; omega)
  · rw [ao 11 (by decide) (by decide) (by decide) (by decide), ao 14 (by decide) (by decide) (by decide) (by decide)]
    exact FG k q hq
  · rw [ao 12 (by decide) (by decide) (by decide) (by decide), ao 13 (by decide) (by decide) (by decide) (by decide)]
    exact FN k q hq
  · rw [n15, n16, n17]
    rcases getE_app (show (pN P ++ [(w, 1, tpm (pT P))])[k]? = some q from hq) with ⟨lt, q1⟩ | ⟨e1, rfl⟩
    · rw [if_neg (by omega), if_neg (by omega), if_neg (by omega)]
      exact FM k q q1
    · rw [if_pos (by omega), if_pos (by omega), if_pos (by omega)]
      exact ⟨rfl, rfl, rfl⟩
theorem m_readPerson {d : Nat} {K : XX} {h : XH} {l : LTk} {P : PT} (Z : MZ K h (.inl l)) (R : MRt K h P (le_ l)) (I : MI P (le_ l)) (e2 : lk l = 2) : WpM (d + 10) 168 [.inr (.inr (ks K))] h (MLin K h P (le_ l) (lPerson (kt K) (kn K) P l)) := by
  have tm := Z.tm
  have tt := R.1.2.1
  have f139 := R.2.1.2.2.2.2.2.1
  have rg := I.1.2.2.2.1
  have rp := I.1.2.2.2.2.1
  have over : ∀ h4 f ls, lPerson (kt K) (kn K) P l = .inr f → MZ K h4 (.inr f) → FrM (ks K) h h4 → Wp (d + 10) 168 34 (some (.inr (.inr (ks K))) :: ls) [] h4 (MLin K h P (le_ l) (lPerson (kt K) (kn K) P l)) := by
    intro h4 f ls er Z4 p4
    have f75 := Z4.2.1.1
    refine Wp.vc 400 [43] rfl ?_
    rw [f75]
    exact ⟨isF Z4.tm rfl, fun w => absurd rfl w, fun _ => ⟨trivial, MLin.over Z R er Z4 p4⟩⟩
  have eL : lPerson (kt K) (kn K) P l = rb (rb (rb (.inl l) (rBegins (kt K) (kn K) (tpm (pT P) < 4) (pT P))) (rFresh (kt K) (kn K) P)) (fun w => rb (rMust (kt K) (kn K) (cw 39) w.2) fun l3 => rb (rHouse (kt K) (kn K) P l3) fun h => rb (rMust (kt K) (kn K) (cw 40) h.2) fun l5 => rb (rHouse (kt K) (kn K) P l5) fun a => .inl (addP P w.1 h.1 a.1, a.2)) := (rb_rb _ _ _).symm
  refine WpM.of rfl (Wp.vc 400 [] rfl ?_)
  rw [f139]
  refine ⟨isF tm rfl, isF tt rfl, ?_⟩
  refine Wp.callR (j := 0) rfl (Nat.le_of_ble_eq_true rfl) ⟨true, tm⟩ (m_lineBegins (d := d + 7) (can := tpm (pT P) < 4) Z R ⟨fun w q => (by have q : tpm (pT P) = 4 := q; omega), fun w => (by have w : tpm (pT P) ≠ 4 := w; omega)⟩ (fun l' e => by cases e; rw [e2]; decide)) (fun v h1 q => ?_)
  obtain ⟨rfl, Z1, p1⟩ := q
  refine Wp.vc 400 [] rfl ?_
  refine Wp.callR (j := 0) rfl (Nat.le_of_ble_eq_true rfl) ⟨true, Z1.tm⟩ (m_readFresh (d := d + 2) Z1 (R.keep p1 Z) I) (fun v h2 q => ?_)
  obtain ⟨⟨z1, rfl, hz1⟩, Z2, p2⟩ := q
  generalize rb (rb (.inl l) (rBegins (kt K) (kn K) (tpm (pT P) < 4) (pT P))) (rFresh (kt K) (kn K) P) = r1 at *
  have pp := p1.trans p2
  refine Wp.vc 400 [] rfl ?_
  refine Wp.callR (j := 0) rfl (Nat.le_of_ble_eq_true rfl) ⟨true, Z2.tm⟩ (m_readPartHouse (d := d) (k := 39) Z2 (R.keep pp Z) I (by decide) (xwk (by decide) (by decide))) (fun v h3 q => ?_)
  obtain ⟨⟨z2, rfl, hz2⟩, Z3, p3⟩ := q
  generalize hr2 : rb (rb (rsnd r1) (rMust (kt K) (kn K) (cw 39))) (rHouse (kt K) (kn K) P) = r2 at *
  have pp := pp.trans p3
  refine Wp.vc 400 [] rfl ?_
  refine Wp.callR (j := 0) rfl (Nat.le_of_ble_eq_true rfl) ⟨true, Z3.tm⟩ (m_readPartHouse (d := d) (k := 40) Z3 (R.keep pp Z) I (by decide) (xwk (by decide) (by decide))) (fun v h4 q => ?_)
  obtain ⟨⟨z3, rfl, hz3⟩, Z7, p4⟩ := q
  generalize hr3 : rb (rb (rsnd r2) (rMust (kt K) (kn K) (cw 40))) (rHouse (kt K) (kn K) P) = r3 at *
  have pp := pp.trans p4
  clear p1 p2 p3 p4 Z1 Z2 Z3
  refine Wp.vc 400 [34] rfl ?_
  cases r1 with
  | inr f =>
    subst hr2; subst hr3
    exact over h4 f _ eL Z7 pp
  | inl w =>
  have hz1 := hz1 w rfl
  have eL : lPerson (kt K) (kn K) P l = rb r2 (fun h => rb (rMust (kt K) (kn K) (cw 40) h.2) fun l5 => rb (rHouse (kt K) (kn K) P l5) fun a => .inl (addP P w.1 h.1 a.1, a.2)) := by
    rw [eL, ← hr2]
    exact (rb_rb _ _ _).symm
  cases r2 with
  | inr f =>
    subst hr3
    exact over h4 f _ eL Z7 pp
  | inl r =>
  have hz2 := hz2 r rfl
  have eL : lPerson (kt K) (kn K) P l = rb r3 (fun a => .inl (addP P w.1 r.1 a.1, a.2)) := by
    rw [eL, ← hr3]
    exact (rb_rb _ _ _).symm
  cases r3 with
  | inr f => exact over h4 f _ eL Z7 pp
  | inl a =>
  have hz3 := hz3 a rfl
  have ne : xfl h4 (ks K) 75 ≠ 5 := fun w => by
    obtain ⟨f, w⟩ := Z7.s5.mp w
    cases w
  have ok := lPerson_ok (tp := kt K) (n := kn K) (q := (addP P w.1 r.1 a.1, a.2)) eL I.1 (Z.2.2 l rfl)
  have lt : le_ l < le_ a.2 := ok.2.2
  have n4 : tpm (pT P) < 4 := by
    have b := ok.1.2.2.2.2.1
    have b : 0 ≤ tpm (pT P) + 1 ∧ tpm (pT P) + 1 ≤ 4 := b
    omega
  have lN := I.2
  obtain ⟨R7Y, R7F⟩ := R.keep pp Z
  obtain ⟨t, ht⟩ : ∃ t, t = xfl h4 (ks K) 70 := ⟨_, rfl⟩
  rw [← ht] at R7Y R7F
  have y := R7Y
  obtain ⟨⟨y0, y1⟩, y2, y3, y4, y7, y8, ⟨y9, y10⟩, -⟩ := y
  have zz := Z7.1.1
  have tm7 := Z7.tm
  have g139 : xfl h4 t 139 = tpm (pT P) := R7F.1.2.2.2.2.2.1
  have nm := m_names (d := d + 9) (z := z1) (s := 1) (k := tpm (pT P)) tm7 ht.symm (by omega) R7Y R7F (by omega)
  have fr : FrTw K h4 (xputf (xputa (xputa (xputf (xputa (xputa (xputa h4 (t + 15) ((pN P).length : Int) z1) (t + 16) ((pN P).length : Int) 1) (t + 17) ((pN P).length : Int) (tpm (pT P))) t 142 (((pN P).length : Int) + 1)) (t + 9) (tpm (pT P)) z2) (t + 10) (tpm (pT P)) z3) t 139 (tpm (pT P) + 1)) := ((((((((FrTw.refl h4).a (by omega)).a (by omega)).a (by omega)).f y0 (by decide)).a (by omega)).a (by omega)).f y0 (by decide))
  have F : MTf (xputf (xputa (xputa (xputf (xputa (xputa (xputa h4 (t + 15) ((pN P).length : Int) z1) (t + 16) ((pN P).length : Int) 1) (t + 17) ((pN P).length : Int) (tpm (pT P))) t 142 (((pN P).length : Int) + 1)) (t + 9) (tpm (pT P)) z2) (t + 10) (tpm (pT P)) z3) t 139 (tpm (pT P) + 1)) t (addP P w.1 r.1 a.1) (le_ a.2) := by
    rw [hz1, hz2, hz3]
    refine R7F.person (by omega) (fun f f0 f1 f2 => ?_) pf_eq ?_ ?_ ?_ ?_ ?_ ?_ ?_
    · rw [pf_ne f2]
      show xfl (xputf _ t 142 _) t f = _
      rw [pf_ne (by omega)]
      rfl
    · rw [pf_ne (by decide)]
      show xfl (xputf _ t 142 _) t 142 = _
      exact pf_eq
    all_goals (intros; repeat (first | rw [xar_putf] | rw [pa_ne (by omega)] | rw [pa_eq]))
  have fin := MLin.live (P := P) (e := le_ l) eL Z7 pp fr R7Y ht.symm F
  refine Wp.vc 400 [53] rfl ?_
  rw [← ht, g139]
  refine ⟨isF tm7 rfl, fun _ => ⟨isF tm7 rfl, isF y2 rfl, ?_⟩, fun w => absurd ne w⟩
  refine Wp.vc 400 [56] rfl ?_
  refine Wp.callE (j := 0) rfl (Nat.le_of_ble_eq_true rfl) ⟨true, tm7⟩ nm ?_
  obtain ⟨g1, hg1⟩ : ∃ g1, g1 = xputf (xputa (xputa (xputa h4 (t + 15) ((pN P).length : Int) z1) (t + 16) ((pN P).length : Int) 1) (t + 17) ((pN P).length : Int) (tpm (pT P))) t 142 (((pN P).length : Int) + 1) := ⟨_, rfl⟩
  have e70 : xfl g1 (ks K) 70 = t := by rw [hg1, pf_ne (by decide)]; exact ht.symm
  have e151 : xfl g1 t 151 = t + 9 := by rw [hg1, pf_ne (by decide)]; exact y3 151 (by decide) (by decide)
  have e152 : xfl g1 t 152 = t + 10 := by rw [hg1, pf_ne (by decide)]; exact y3 152 (by decide) (by decide)
  have e139 : xfl g1 t 139 = tpm (pT P) := by rw [hg1, pf_ne (by decide)]; exact g139
  have tmg : xty g1 (ks K) = some (true, 9, none) := by rw [hg1]; exact tm7
  have y2g : xty g1 t = some (true, 15, none) := by rw [hg1]; exact y2
  have y9g : xty g1 (t + 9) = some (true, 0, some 4) := by rw [hg1]; exact y9
  have y10g : xty g1 (t + 10) = some (true, 0, some 4) := by rw [hg1]; exact y10
  rw [← hg1] at fin ⊢
  clear hg1
  refine Wp.vc 400 [] rfl ?_
  simp only [xfl_puta, e70, e151, e152, e139]
  exact ⟨isF tmg rfl, isF y2g rfl, isF tmg rfl, isF y2g rfl, isB y9g rp.1 n4, isF tmg rfl, isF y2g rfl, isF tmg rfl, isF y2g rfl, isB y10g rp.1 n4, isF tmg rfl, isF y2g rfl, ⟨by omega, by omega⟩, isW y2g rfl, trivial, fin⟩
