/-! WALKS, 87: the model's reader: houses -/
set_option maxRecDepth 100000
set_option maxHeartbeats 4000000
theorem pa_ne {h : XH} {a b j v i : Int} (n : a ≠ b) : xar (xputa h b j v) a i = xar h a i := by rw [xar_puta, if_neg (fun w => n w.1)]
theorem pa_eq {h : XH} {a j v i : Int} : xar (xputa h a j v) a i = if i = j then v else xar h a i := by
  rw [xar_puta]
  by_cases e : i = j
  · rw [if_pos ⟨rfl, e⟩, if_pos e]
  · rw [if_neg (fun w => e w.2), if_neg e]
theorem pf_ne {h : XH} {a b v : Int} {f f' : Nat} (n : f' ≠ f) : xfl (xputf h b f v) a f' = xfl h a f' := by rw [xfl_putf, if_neg (fun w => n w.2)]
theorem pf_eq {h : XH} {a v : Int} {f : Nat} : xfl (xputf h a f v) a f = v := by rw [xfl_putf, if_pos ⟨rfl, rfl⟩]
theorem m_names {d : Nat} {K : XX} {h : XH} {P : PT} {t e z s k : Int} (tm : xty h (ks K) = some (true, 9, none)) (f70 : xfl h (ks K) 70 = t) (hm : ks K < kz K) (Y : MTy (kz K) h t) (F : MTf h t P e) (hl : (pN P).length ≤ 10) : WpM d 162 [.inr (.inr (ks K)), .inr (.inl z), .inl s, .inl k] h (XE none (xputf (xputa (xputa (xputa h (t + 15) ((pN P).length : Int) z) (t + 16) ((pN P).length : Int) s) (t + 17) ((pN P).length : Int) k) t 142 (((pN P).length : Int) + 1))) := by
  obtain ⟨⟨y0, -⟩, y2, y3, -, -, -, -, -, -, -, y15, y16, y17⟩ := Y
  have f142 := F.2.1.1
  have f157 : xfl h t 157 = t + 15 := y3 157 (by decide) (by decide)
  have f158 : xfl h t 158 = t + 16 := y3 158 (by decide) (by decide)
  have f159 : xfl h t 159 = t + 17 := y3 159 (by decide) (by decide)
  refine WpM.of rfl (Wp.vc 400 [] rfl ?_)
  simp only [xfl_puta, f70, f142, f157, f158, f159]
  exact ⟨isF tm rfl, isF y2 rfl, isF tm rfl, isF y2 rfl, isB y15 (by omega) (by omega), isF tm rfl, isF y2 rfl, isF tm rfl, isF y2 rfl, isB y16 (by omega) (by omega), isF tm rfl, isF y2 rfl, isF tm rfl, isF y2 rfl, isB y17 (by omega) (by omega), isF tm rfl, isF y2 rfl, ⟨by omega, by omega⟩, isW y2 rfl, trivial, rfl, rfl⟩
theorem MTf.house {h g : XH} {t e e' r rt b : Int} {P : PT} {w sm : List Int} (F : MTf h t P e) (he : e ≤ e')
    (sc : ∀ f, 133 ≤ f → f ≤ 141 → f ≠ 135 → xfl g t f = xfl h t f) (f135 : xfl g t 135 = tnh (pT P) + 1) (f142 : xfl g t 142 = ((pN P).length : Int) + 1)
    (a1 : ∀ i, xar g (t + 1) i = if i = tnh (pT P) then r else xar h (t + 1) i) (a2 : ∀ i, xar g (t + 2) i = if i = tnh (pT P) then rt else xar h (t + 2) i) (a3 : ∀ i, xar g (t + 3) i = if i = tnh (pT P) then b else xar h (t + 3) i) (a4 : ∀ i, xar g (t + 4) i = if i = tnh (pT P) then -2 else xar h (t + 4) i) (a5 : ∀ i, xar g (t + 5) i = if i = tnh (pT P) then -1 else xar h (t + 5) i) (a6 : ∀ i, xar g (t + 6) i = xar h (t + 6) i) (a7 : ∀ i, xar g (t + 7) i = if i = tnh (pT P) then xpack sm else xar h (t + 7) i)
    (ao : ∀ c : Int, 8 ≤ c → c ≤ 14 → ∀ i, xar g (t + c) i = xar h (t + c) i) (n15 : ∀ i, xar g (t + 15) i = if i = ((pN P).length : Int) then xpack w else xar h (t + 15) i) (n16 : ∀ i, xar g (t + 16) i = if i = ((pN P).length : Int) then 0 else xar h (t + 16) i) (n17 : ∀ i, xar g (t + 17) i = if i = ((pN P).length : Int) then tnh (pT P) else xar h (t + 17) i) : MTf g t (addH P w r rt b sm) e' := by
  obtain ⟨⟨g1, g2, g3, g4, g5, g6, g7, g8⟩, ⟨g9, g10, g11⟩, FH, FS, FP, FG, FN, FM⟩ := F
  obtain ⟨⟨v0, v1, v2, v3⟩, v4, v5, v6, v9⟩ := addH_n (P := P) (w := w) (sm := sm) (r := r) (t := rt) (b := b)
  have en : tnh (pT (addH P w r rt b sm)) = tnh (pT P) + 1 := rfl
  refine ⟨⟨(sc _ (by decide) (by decide) (by decide)).trans g1, (sc _ (by decide) (by decide) (by decide)).trans g2, f135, (sc _ (by decide) (by decide) (by decide)).trans g4, (sc _ (by decide) (by decide) (by decide)).trans g5, (sc _ (by decide) (by decide) (by decide)).trans g6, (sc _ (by decide) (by decide) (by decide)).trans g7, (sc _ (by decide) (by decide) (by decide)).trans g8⟩, ⟨?_, ?_, ?_⟩, fun i i0 i1 => ?_, fun i j i0 i1 j0 j1 => (ao 8 (by decide) (by decide) _).trans (FS i j i0 i1 j0 j1), fun i i0 i1 => ?_, fun k q hq => ?_, fun k q hq => ?_, fun k q hq => ?_⟩
  · rw [f142]
    show _ = (((pN P ++ [(w, 0, tnh (pT P))]).length : Nat) : Int)
    rw [List.length_append]
    show _ = (((pN P).length + 1 : Nat) : Int)
    omega
  · rw [sc _ (by decide) (by decide) (by decide)]
    exact g10
  · rw [sc _ (by decide) (by decide) (by decide)]
    omega
  · rw [a1, a2, a3, a4, a5, a6, a7]
    by_cases q : i = tnh (pT P)
    · rw [if_pos q, if_pos q, if_pos q, if_pos q, if_pos q, if_pos q, q]
      exact ⟨v0.symm, v1.symm, v2.symm, v3.symm, Or.inl ⟨v9, rfl⟩, v6.symm⟩
    · rw [if_neg q, if_neg q, if_neg q, if_neg q, if_neg q, if_neg q, addH_hv (Or.inl q), addH_hv (Or.inl q), addH_hv (Or.inl q), addH_hv (Or.inl q), addH_hv (Or.inl q), addH_hv (Or.inl q), addH_hv (Or.inl q), addH_hv (Or.inl q)]
      exact FH i i0 (by have i1 : i < tnh (pT P) + 1 := i1; omega)
  · rw [ao 9 (by decide) (by decide), ao 10 (by decide) (by decide), addH_hv (Or.inr (Or.inl rfl)), addH_hv (Or.inr (Or.inr rfl))]
    exact FP i i0 i1
  · rw [ao 11 (by decide) (by decide), ao 14 (by decide) (by decide)]
    exact FG k q hq
  · rw [ao 12 (by decide) (by decide), ao 13 (by decide) (by decide)]
    exact FN k q hq
  · rw [n15, n16, n17]
    rcases getE_app (show (pN P ++ [(w, 0, tnh (pT P))])[k]? = some q from hq) with ⟨lt, q1⟩ | ⟨e1, rfl⟩
    · rw [if_neg (by omega), if_neg (by omega), if_neg (by omega)]
      exact FM k q q1
    · rw [if_pos (by omega), if_pos (by omega), if_pos (by omega)]
      exact ⟨rfl, rfl, rfl⟩
theorem m_readHouseLine {d : Nat} {K : XX} {h : XH} {l : LTk} {P : PT} (Z : MZ K h (.inl l)) (R : MRt K h P (le_ l)) (I : MI P (le_ l)) (e2 : lk l = 2) : WpM (d + 8) 157 [.inr (.inr (ks K))] h (MLin K h P (le_ l) (lHouse (kt K) (kn K) P l)) := by
  have tm := Z.tm
  have tt := R.1.2.1
  have f135 := R.2.1.2.2.1
  have rg := I.1.2.2.2.1
  have rp := I.1.2.2.2.2.1
  have over : ∀ h4 f ls, lHouse (kt K) (kn K) P l = .inr f → MZ K h4 (.inr f) → FrM (ks K) h h4 → Wp (d + 8) 157 65 (some (.inr (.inr (ks K))) :: ls) [] h4 (MLin K h P (le_ l) (lHouse (kt K) (kn K) P l)) := by
    intro h4 f ls er Z4 p4
    have f75 := Z4.2.1.1
    refine Wp.vc 400 [74] rfl ?_
    rw [f75]
    exact ⟨isF Z4.tm rfl, fun w => absurd rfl w, fun _ => ⟨trivial, MLin.over Z R er Z4 p4⟩⟩
  have eL : lHouse (kt K) (kn K) P l = rb (rb (rb (.inl l) (rBegins (kt K) (kn K) (tnh (pT P) < 7) (pT P))) (rFresh (kt K) (kn K) P)) (fun w => rb (rAft (kt K) (kn K) (cw 31) 1 9 w.2) fun r => rb (rAft (kt K) (kn K) (cw 32) 1 99 r.2) fun t => rb (rAft (kt K) (kn K) (cw 33) 0 999 t.2) fun b => rb (rMust (kt K) (kn K) (cw 34) b.2) fun l6 => rb (rWord (kt K) (kn K) l6) fun sm => .inl (addH P w.1 r.1 t.1 b.1 sm.1, sm.2)) := (rb_rb _ _ _).symm
  refine WpM.of rfl (Wp.vc 400 [] rfl ?_)
  rw [f135]
  refine ⟨isF tm rfl, isF tt rfl, ?_⟩
  refine Wp.callR (j := 0) rfl (Nat.le_of_ble_eq_true rfl) ⟨true, tm⟩ (m_lineBegins (d := d + 5) (can := tnh (pT P) < 7) Z R ⟨fun w q => (by have q : tnh (pT P) = 7 := q; omega), fun w => (by have w : tnh (pT P) ≠ 7 := w; omega)⟩ (fun l' e => by cases e; rw [e2]; decide)) (fun v h1 q => ?_)
  obtain ⟨rfl, Z1, p1⟩ := q
  refine Wp.vc 400 [] rfl ?_
  refine Wp.callR (j := 0) rfl (Nat.le_of_ble_eq_true rfl) ⟨true, Z1.tm⟩ (m_readFresh (d := d) Z1 (R.keep p1 Z) I) (fun v h2 q => ?_)
  obtain ⟨⟨z1, rfl, hz1⟩, Z2, p2⟩ := q
  generalize rb (rb (.inl l) (rBegins (kt K) (kn K) (tnh (pT P) < 7) (pT P))) (rFresh (kt K) (kn K) P) = r1 at *
  have pp := p1.trans p2
  refine Wp.vc 400 [] rfl ?_
  refine Wp.callR (j := 0) rfl (Nat.le_of_ble_eq_true rfl) ⟨true, Z2.tm⟩ (m_readPart (d := d) (k := 31) (lo := 1) (hi := 9) Z2 (by decide) (xwk (by decide) (by decide))) (fun v h3 q => ?_)
  obtain ⟨⟨z2, rfl, hz2⟩, Z3, p3⟩ := q
  generalize hr2 : rb (rsnd r1) (rAft (kt K) (kn K) (cw 31) 1 9) = r2 at *
  have pp := pp.trans p3
  refine Wp.vc 400 [] rfl ?_
  refine Wp.callR (j := 0) rfl (Nat.le_of_ble_eq_true rfl) ⟨true, Z3.tm⟩ (m_readPart (d := d) (k := 32) (lo := 1) (hi := 99) Z3 (by decide) (xwk (by decide) (by decide))) (fun v h4 q => ?_)
  obtain ⟨⟨z3, rfl, hz3⟩, Z4, p4⟩ := q
  generalize hr3 : rb (rsnd r2) (rAft (kt K) (kn K) (cw 32) 1 99) = r3 at *
  have pp := pp.trans p4
  refine Wp.vc 400 [] rfl ?_
  refine Wp.callR (j := 0) rfl (Nat.le_of_ble_eq_true rfl) ⟨true, Z4.tm⟩ (m_readPart (d := d) (k := 33) (lo := 0) (hi := 999) Z4 (by decide) (xwk (by decide) (by decide))) (fun v h5 q => ?_)
  obtain ⟨⟨z4, rfl, hz4⟩, Z5, p5⟩ := q
  generalize hr4 : rb (rsnd r3) (rAft (kt K) (kn K) (cw 33) 0 999) = r4 at *
  have pp := pp.trans p5
  refine Wp.vc 400 [] rfl ?_
  refine Wp.callR (j := 0) rfl (Nat.le_of_ble_eq_true rfl) ⟨true, Z5.tm⟩ (m_needs (d := d + 1) (k := 34) Z5 (by decide) (xwk (by decide) (by decide))) (fun v h6 q => ?_)
  obtain ⟨rfl, Z6, p6⟩ := q
  generalize hr5 : rb (rsnd r4) (rMust (kt K) (kn K) (cw 34)) = r5 at *
  have pp := pp.trans p6
  refine Wp.vc 400 [] rfl ?_
  refine Wp.callR (j := 0) rfl (Nat.le_of_ble_eq_true rfl) ⟨true, Z6.tm⟩ (m_readWord (d := d + 5) Z6) (fun v h7 q => ?_)
  obtain ⟨⟨z6, rfl, hz6⟩, Z7, p7⟩ := q
  generalize hr6 : rb r5 (rWord (kt K) (kn K)) = r6 at *
  have pp := pp.trans p7
  clear p1 p2 p3 p4 p5 p6 p7 Z1 Z2 Z3 Z4 Z5 Z6
  refine Wp.vc 400 [65] rfl ?_
  cases r1 with
  | inr f =>
    subst hr2; subst hr3; subst hr4; subst hr5; subst hr6
    exact over h7 f _ eL Z7 pp
  | inl w =>
  have hz1 := hz1 w rfl
  have eL := eL.trans (show _ = rb r2 _ by rw [← hr2]; rfl)
  cases r2 with
  | inr f =>
    subst hr3; subst hr4; subst hr5; subst hr6
    exact over h7 f _ eL Z7 pp
  | inl r =>
  have hz2 := hz2 r rfl
  have eL := eL.trans (show _ = rb r3 _ by rw [← hr3]; rfl)
  cases r3 with
  | inr f =>
    subst hr4; subst hr5; subst hr6
    exact over h7 f _ eL Z7 pp
  | inl rt =>
  have hz3 := hz3 rt rfl
  have eL := eL.trans (show _ = rb r4 _ by rw [← hr4]; rfl)
  cases r4 with
  | inr f =>
    subst hr5; subst hr6
    exact over h7 f _ eL Z7 pp
  | inl b =>
  have hz4 := hz4 b rfl
  have eL := eL.trans (show _ = rb r5 _ by rw [← hr5]; rfl)
  cases r5 with
  | inr f =>
    subst hr6
    exact over h7 f _ eL Z7 pp
  | inl l6 =>
  have eL := eL.trans (show _ = rb r6 _ by rw [← hr6]; rfl)
  cases r6 with
  | inr f => exact over h7 f _ eL Z7 pp
  | inl sm =>
  have hz6 := hz6 sm rfl
  have ne : xfl h7 (ks K) 75 ≠ 5 := fun w => by
    obtain ⟨f, w⟩ := Z7.s5.mp w
    cases w
  have ok := lHouse_ok (tp := kt K) (n := kn K) (q := (addH P w.1 r.1 rt.1 b.1 sm.1, sm.2)) eL I.1 (Z.2.2 l rfl)
  have lt : le_ l < le_ sm.2 := ok.2.2
  have n7 : tnh (pT P) < 7 := by
    have a := ok.1.2.2.2.1
    have a : 0 ≤ tnh (pT P) + 1 ∧ tnh (pT P) + 1 ≤ 7 := a
    omega
  have lN := I.2
  obtain ⟨R7Y, R7F⟩ := R.keep pp Z
  obtain ⟨t, ht⟩ : ∃ t, t = xfl h7 (ks K) 70 := ⟨_, rfl⟩
  rw [← ht] at R7Y R7F
  have y := R7Y
  obtain ⟨⟨y0, y1⟩, y2, y3, y4, y7, -⟩ := y
  have zz := Z7.1.1
  have tm7 := Z7.tm
  have g135 : xfl h7 t 135 = tnh (pT P) := R7F.1.2.2.1
  have nm := m_names (d := d + 7) (z := z1) (s := 0) (k := tnh (pT P)) tm7 ht.symm (by omega) R7Y R7F (by omega)
  have fr : FrTw K h7 (xputf (xputa (xputa (xputa (xputa (xputa (xputa (xputf (xputa (xputa (xputa h7 (t + 15) ((pN P).length : Int) z1) (t + 16) ((pN P).length : Int) 0) (t + 17) ((pN P).length : Int) (tnh (pT P))) t 142 (((pN P).length : Int) + 1)) (t + 1) (tnh (pT P)) z2) (t + 2) (tnh (pT P)) z3) (t + 3) (tnh (pT P)) z4) (t + 7) (tnh (pT P)) z6) (t + 4) (tnh (pT P)) (-2)) (t + 5) (tnh (pT P)) (-1)) t 135 (tnh (pT P) + 1)) := ((((((((((((FrTw.refl h7).a (by omega)).a (by omega)).a (by omega)).f y0 (by decide)).a (by omega)).a (by omega)).a (by omega)).a (by omega)).a (by omega)).a (by omega)).f y0 (by decide))
  have F : MTf (xputf (xputa (xputa (xputa (xputa (xputa (xputa (xputf (xputa (xputa (xputa h7 (t + 15) ((pN P).length : Int) z1) (t + 16) ((pN P).length : Int) 0) (t + 17) ((pN P).length : Int) (tnh (pT P))) t 142 (((pN P).length : Int) + 1)) (t + 1) (tnh (pT P)) z2) (t + 2) (tnh (pT P)) z3) (t + 3) (tnh (pT P)) z4) (t + 7) (tnh (pT P)) z6) (t + 4) (tnh (pT P)) (-2)) (t + 5) (tnh (pT P)) (-1)) t 135 (tnh (pT P) + 1)) t (addH P w.1 r.1 rt.1 b.1 sm.1) (le_ sm.2) := by
    rw [hz1, hz2, hz3, hz4, hz6]
    refine R7F.house (by omega) (fun f f0 f1 f2 => ?_) pf_eq ?_ ?_ ?_ ?_ ?_ ?_ ?_ ?_ ?_ ?_ ?_ ?_
    · rw [pf_ne f2]
      show xfl (xputf _ t 142 _) t f = _
      rw [pf_ne (by omega)]
      rfl
    · rw [pf_ne (by decide)]
      show xfl (xputf _ t 142 _) t 142 = _
      exact pf_eq
    all_goals (intros; repeat (first | rw [xar_putf] | rw [pa_ne (by omega)] | rw [pa_eq]))
  have fin := MLin.live (P := P) (e := le_ l) eL Z7 pp fr R7Y ht.symm F
  refine Wp.vc 400 [83] rfl ?_
  rw [← ht, g135]
  refine ⟨isF tm7 rfl, fun _ => ⟨isF tm7 rfl, isF y2 rfl, ?_⟩, fun w => absurd ne w⟩
  refine Wp.vc 400 [] rfl ?_
  refine Wp.callE (j := 0) rfl (Nat.le_of_ble_eq_true rfl) ⟨true, tm7⟩ nm ?_
  obtain ⟨g1, hg1⟩ : ∃ g1, g1 = xputf (xputa (xputa (xputa h7 (t + 15) ((pN P).length : Int) z1) (t + 16) ((pN P).length : Int) 0) (t + 17) ((pN P).length : Int) (tnh (pT P))) t 142 (((pN P).length : Int) + 1) := ⟨_, rfl⟩
  have e70 : xfl g1 (ks K) 70 = t := by rw [hg1, pf_ne (by decide)]; exact ht.symm
  have ef : ∀ f : Nat, 143 ≤ f → f ≤ 159 → xfl g1 t f = t + ((f : Int) - 142) := fun f f0 f1 => by rw [hg1, pf_ne (by omega)]; exact y3 f f0 f1
  have e135 : xfl g1 t 135 = tnh (pT P) := by rw [hg1, pf_ne (by decide)]; exact g135
  have tmg : xty g1 (ks K) = some (true, 9, none) := by rw [hg1]; exact tm7
  have y2g : xty g1 t = some (true, 15, none) := by rw [hg1]; exact y2
  have y4g : ∀ c : Int, (1 ≤ c ∧ c ≤ 6) → xty g1 (t + c) = some (true, 0, some 7) := fun c hc => by rw [hg1]; exact y4 c hc
  have y7g : xty g1 (t + 7) = some (true, 3, some 7) := by rw [hg1]; exact y7
  rw [← hg1] at fin ⊢
  clear hg1
  have e143 : xfl g1 t 143 = t + 1 := ef 143 (by decide) (by decide)
  have e144 : xfl g1 t 144 = t + 2 := ef 144 (by decide) (by decide)
  have e145 : xfl g1 t 145 = t + 3 := ef 145 (by decide) (by decide)
  have e146 : xfl g1 t 146 = t + 4 := ef 146 (by decide) (by decide)
  have e147 : xfl g1 t 147 = t + 5 := ef 147 (by decide) (by decide)
  have e149 : xfl g1 t 149 = t + 7 := ef 149 (by decide) (by decide)
  refine Wp.vc 400 [] rfl ?_
  simp only [xfl_puta, e70, e143, e144, e145, e146, e147, e149, e135]
  exact ⟨isF tmg rfl, isF y2g rfl, isB (y4g 1 (by decide)) rg.1 n7, isF tmg rfl, isF y2g rfl, isB (y4g 2 (by decide)) rg.1 n7, isF tmg rfl, isF y2g rfl, isB (y4g 3 (by decide)) rg.1 n7, isF tmg rfl, isF y2g rfl, isB y7g rg.1 n7, isF tmg rfl, isF y2g rfl, isB (y4g 4 (by decide)) rg.1 n7, isF tmg rfl, isF y2g rfl, isB (y4g 5 (by decide)) rg.1 n7, isF tmg rfl, isF y2g rfl, ⟨by omega, by omega⟩, isW y2g rfl, trivial, fin⟩
