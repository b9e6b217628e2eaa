/-! WALKS, 86: the model's reader: lines -/
set_option maxRecDepth 100000
set_option maxHeartbeats 4000000
theorem rHouse_o {tp : List Int} {n : Int} {P : PT} (o : Re LTk) : rb o (rHouse tp n P) = rb (rb o (rHere P)) (fun q => .inl (q.1, ga tp n q.2)) := by cases o <;> rfl
theorem m_readHouse {d : Nat} {K : XX} {h : XH} {o : Re LTk} {P : PT} {e : Int} (Z : MZ K h o) (R : MRt K h P e) (I : MI P e) : WpM (d + 8) 167 [.inr (.inr (ks K))] h (XRet fun v h' => (∃ z : Int, v = some (.inl z) ∧ ∀ q, rb o (rHouse (kt K) (kn K) P) = .inl q → z = q.1) ∧ MZ K h' (rsnd (rb o (rHouse (kt K) (kn K) P))) ∧ FrM (ks K) h h') := by
  have tm := Z.tm
  rw [rHouse_o]
  refine WpM.of rfl (Wp.vc 400 [] rfl ?_)
  refine Wp.callR (j := 0) rfl (Nat.le_of_ble_eq_true rfl) ⟨true, tm⟩ (m_knownHouse (d := d) Z R I) (fun v h2 q => ?_)
  obtain ⟨⟨z, rfl, hz⟩, Z2, p2⟩ := q
  have k2 : ∀ l, rsnd (rb o (rHere P)) = .inl l → lk l ≠ 1 := by
    intro l e
    cases o with
    | inr f => cases e
    | inl l0 =>
      have e : rsnd (rHere P l0) = .inl l := e
      cases hr : rHere P l0 with
      | inr f =>
        rw [hr] at e
        cases e
      | inl q =>
        rw [hr] at e
        cases e
        obtain ⟨c, c2, -⟩ := rHere_inv hr I.1.1
        rw [c2, c]
        decide
  refine Wp.vc 400 [] rfl ?_
  refine Wp.callR (j := 0) rfl (Nat.le_of_ble_eq_true rfl) ⟨true, Z2.tm⟩ (m_goesOn (d := d + 6) Z2 k2) (fun v h3 q => ?_)
  obtain ⟨rfl, Z3, p3⟩ := q
  refine Wp.vc 400 [] rfl ?_
  refine ⟨trivial, _, rfl, ⟨z, rfl, fun q w => ?_⟩, ?_, p2.trans p3⟩
  · cases hr : rb o (rHere P) with
    | inr f =>
      rw [hr] at w
      cases w
    | inl q' =>
      rw [hr] at w
      cases w
      exact hz q' hr
  · generalize rb o (rHere P) = r at Z3
    cases r <;> exact Z3
theorem m_readPartHouse {d : Nat} {K : XX} {h : XH} {o : Re LTk} {P : PT} {e : Int} {k : Nat} (Z : MZ K h o) (R : MRt K h P e) (I : MI P e) (hk : k < 41) (xk : xword (cw k)) : WpM (d + 9) 169 [.inr (.inr (ks K)), .inr (.inr (xcs h k))] h (XRet fun v h' => (∃ z : Int, v = some (.inl z) ∧ ∀ q, rb (rb o (rMust (kt K) (kn K) (cw k))) (rHouse (kt K) (kn K) P) = .inl q → z = q.1) ∧ MZ K h' (rsnd (rb (rb o (rMust (kt K) (kn K) (cw k))) (rHouse (kt K) (kn K) P))) ∧ FrM (ks K) h h') := by
  have tm := Z.tm
  refine WpM.of rfl (Wp.vc 400 [] rfl ?_)
  refine Wp.callR (j := 0) rfl (Nat.le_of_ble_eq_true rfl) ⟨true, tm⟩ (m_needs (d := d + 2) Z hk xk) (fun v h2 q => ?_)
  obtain ⟨rfl, Z2, p2⟩ := q
  refine Wp.vc 400 [] rfl ?_
  refine Wp.callR (j := 0) rfl (Nat.le_of_ble_eq_true rfl) ⟨true, Z2.tm⟩ (m_readHouse (d := d) Z2 (R.keep p2 Z) I) (fun v h3 q => ?_)
  obtain ⟨⟨z, rfl, hz⟩, Z3, p3⟩ := q
  refine Wp.vc 400 [] rfl ?_
  exact ⟨trivial, _, rfl, ⟨z, rfl, hz⟩, Z3, p2.trans p3⟩
def FrMT (K : XX) (h g : XH) : Prop := XFr (fun z f => (z = ks K ∧ 74 ≤ f ∧ f ≤ 80) ∨ kz K ≤ z) (fun z => kz K ≤ z) h g ∧ xsz g = xsz h ∧ xsl g = xsl h
theorem FrMT.trans {K : XX} {h g k : XH} (p : FrMT K h g) (q : FrMT K g k) : FrMT K h k := ⟨p.1.trans q.1 (fun _ _ _ w => w) (fun _ _ w => w), q.2.1.trans p.2.1, q.2.2.trans p.2.2⟩
theorem FrM.mt {K : XX} {h g : XH} (p : FrM (ks K) h g) : FrMT K h g := ⟨p.1.mono (fun _ _ _ w => Or.inl w) (fun _ _ w => w.elim), p.2⟩
/-- the model's town is written -/
def FrTw (K : XX) (h g : XH) : Prop := XFr (fun z f => kz K ≤ z ∧ f < 143) (fun z => kz K ≤ z) h g ∧ xsz g = xsz h ∧ xsl g = xsl h
theorem FrTw.refl {K : XX} (h : XH) : FrTw K h h := ⟨XFr.refl h, rfl, rfl⟩
theorem FrTw.mt {K : XX} {h g : XH} (p : FrTw K h g) : FrMT K h g := ⟨p.1.mono (fun _ _ _ w => Or.inr w.1) (fun _ _ w => w), p.2⟩
theorem FrTw.f {K : XX} {h g : XH} {a v : Int} {f : Nat} (p : FrTw K h g) (ha : kz K ≤ a) (hf : f < 143) : FrTw K h (xputf g a f v) := ⟨p.1.putf (Or.inr ⟨ha, hf⟩), p.2⟩
theorem FrTw.a {K : XX} {h g : XH} {a i v : Int} (p : FrTw K h g) (ha : kz K ≤ a) : FrTw K h (xputa g a i v) := ⟨p.1.puta (Or.inr ha), p.2⟩
theorem MZ.tw {K : XX} {h g : XH} {o : Re LTk} (p : FrTw K h g) (Z : MZ K h o) : MZ K g o := by
  have zz := Z.1.1
  have fl : ∀ f, xfl g (ks K) f = xfl h (ks K) f := fun f => p.1.2.2.2.1 _ f (by omega) (fun w => by omega)
  refine ⟨Z.1.keepW p.1 (fun z f hz w => by omega) (fun z hz w => by omega), ?_, Z.2.2⟩
  have T := Z.2.1
  cases o with
  | inl l =>
    obtain ⟨a, b, c, d, e, f⟩ := T
    exact ⟨(fl _).trans a, (fl _).trans b, (fl _).trans c, fun w => (fl _).trans (d w), fun w => (fl _).trans (e w), fun w => (fl _).trans (f w)⟩
  | inr f => exact ⟨(fl _).trans T.1, (fl _).trans T.2.1, (fl _).trans T.2.2⟩
theorem MTy.tw {K : XX} {h g : XH} {t : Int} (p : FrTw K h g) (Y : MTy (kz K) h t) : MTy (kz K) g t := by
  obtain ⟨⟨y0, y1⟩, y2, y3, y4, y7, y8, ⟨y9, y10⟩, y11, ⟨y12, y13⟩, y14, y15, y16, y17⟩ := Y
  have ty : ∀ c : Int, c < 18 → xty g (t + c) = xty h (t + c) := fun c c1 => p.1.2.2.1 _ (by omega)
  have t0 : xty g t = xty h t := p.1.2.2.1 _ (by omega)
  exact ⟨⟨y0, by rw [p.2.1]; exact y1⟩, t0.trans y2, fun f f0 f1 => (p.1.2.2.2.1 t f (by omega) (fun w => by omega)).trans (y3 f f0 f1), fun c hc => (ty c (by omega)).trans (y4 c hc), (ty 7 (by decide)).trans y7, (ty 8 (by decide)).trans y8, ⟨(ty 9 (by decide)).trans y9, (ty 10 (by decide)).trans y10⟩, (ty 11 (by decide)).trans y11, ⟨(ty 12 (by decide)).trans y12, (ty 13 (by decide)).trans y13⟩, (ty 14 (by decide)).trans y14, (ty 15 (by decide)).trans y15, (ty 16 (by decide)).trans y16, (ty 17 (by decide)).trans y17⟩
abbrev MLin (K : XX) (h : XH) (P : PT) (e : Int) (r : Re (PT × LTk)) : XO → XH → Prop := XRet fun v h' => v = none ∧ MZ K h' (rsnd r) ∧ FrMT K h h' ∧ (∀ q, r = .inl q → MRt K h' q.1 (le_ q.2)) ∧ ∀ f, r = .inr f → MRt K h' P e
theorem MLin.over {K : XX} {h h4 : XH} {P : PT} {e : Int} {r : Re (PT × LTk)} {f : Int × Int} {o : Re LTk} (Z0 : MZ K h o) (R : MRt K h P e) (er : r = .inr f) (Z : MZ K h4 (.inr f)) (p : FrM (ks K) h h4) : MLin K h P e r (.inl none) h4 := by
  subst er
  exact ⟨none, rfl, rfl, Z, p.mt, fun q w => (by cases w), fun _ _ => R.keep p Z0⟩
theorem MLin.live {K : XX} {h h4 g : XH} {P P' : PT} {e t : Int} {r : Re (PT × LTk)} {l' : LTk} (er : r = .inl (P', l')) (Z : MZ K h4 (.inl l')) (p : FrM (ks K) h h4) (q : FrTw K h4 g) (Y : MTy (kz K) h4 t) (ft : xfl h4 (ks K) 70 = t) (F : MTf g t P' (le_ l')) : MLin K h P e r (.inl none) g := by
  subst er
  have zz := Z.1.1
  refine ⟨none, rfl, rfl, Z.tw q, p.mt.trans q.mt, fun q' w => ?_, fun f w => (by cases w)⟩
  cases w
  unfold MRt
  rw [q.1.2.2.2.1 (ks K) 70 (by omega) (fun w => by omega), ft]
  exact ⟨Y.tw q, F⟩
theorem m_readTown {d : Nat} {K : XX} {h : XH} {l : LTk} {P : PT} (Z : MZ K h (.inl l)) (R : MRt K h P (le_ l)) (I : MI P (le_ l)) (e2 : lk l = 2) : WpM (d + 8) 151 [.inr (.inr (ks K))] h (MLin K h P (le_ l) (lTown (kt K) (kn K) P l)) := by
  have tm := Z.tm
  have tt := R.1.2.1
  have f133 := R.2.1.1
  have rg := I.1.2.1
  have over : ∀ h4 f l1 l2, lTown (kt K) (kn K) P l = .inr f → MZ K h4 (.inr f) → FrM (ks K) h h4 → Wp (d + 8) 151 39 [some (.inr (.inr (ks K))), l1, l2] [] h4 (MLin K h P (le_ l) (lTown (kt K) (kn K) P l)) := by
    intro h4 f l1 l2 er Z4 p4
    have f75 := Z4.2.1.1
    refine Wp.vc 400 [48] rfl ?_
    rw [f75]
    exact ⟨isF Z4.tm rfl, fun w => absurd rfl w, fun _ => ⟨trivial, MLin.over Z R er Z4 p4⟩⟩
  have at15 : ∀ h1 o1, MZ K h1 o1 → FrM (ks K) h h1 → (∀ l, o1 = .inl l → lk l ≠ 1) → (lTown (kt K) (kn K) P l = rb (rb (rb o1 (fun l => .inl (ga (kt K) (kn K) l))) (rAft (kt K) (kn K) (cw 29) 1 9)) (fun a => rb (rAft (kt K) (kn K) (cw 30) 0 9 a.2) fun b => .inl ((scp (scp (pT P) 0 a.1) 1 b.1, P.2), b.2))) → Wp (d + 8) 151 15 [some (.inr (.inr (ks K))), none, none] [] h1 (MLin K h P (le_ l) (lTown (kt K) (kn K) P l)) := by
    intro h1 o1 Z1 p1 hk1 eL
    refine Wp.vc 400 [] rfl ?_
    refine Wp.callR (j := 0) rfl (Nat.le_of_ble_eq_true rfl) ⟨true, Z1.tm⟩ (m_goesOn (d := d + 6) Z1 hk1) (fun v h2 q => ?_)
    obtain ⟨rfl, Z2, p2⟩ := q
    refine Wp.vc 400 [] rfl ?_
    refine Wp.callR (j := 0) rfl (Nat.le_of_ble_eq_true rfl) ⟨true, Z2.tm⟩ (m_readPart (d := d) (k := 29) (lo := 1) (hi := 9) Z2 (by decide) (xwk (by decide) (by decide))) (fun v h3 q => ?_)
    obtain ⟨⟨z1, rfl, hz1⟩, Z3, p3⟩ := q
    generalize rb (rb o1 (fun l => .inl (ga (kt K) (kn K) l))) (rAft (kt K) (kn K) (cw 29) 1 9) = r1 at *
    refine Wp.vc 400 [] rfl ?_
    refine Wp.callR (j := 0) rfl (Nat.le_of_ble_eq_true rfl) ⟨true, Z3.tm⟩ (m_readPart (d := d) (k := 30) (lo := 0) (hi := 9) Z3 (by decide) (xwk (by decide) (by decide))) (fun v h4 q => ?_)
    obtain ⟨⟨z2, rfl, hz2⟩, Z4, p4⟩ := q
    generalize hr2 : rb (rsnd r1) (rAft (kt K) (kn K) (cw 30) 0 9) = r2 at *
    have pp := p1.trans (p2.trans (p3.trans p4))
    refine Wp.vc 400 [39] rfl ?_
    cases r1 with
    | inr f =>
      subst hr2
      exact over h4 f _ _ eL Z4 pp
    | inl a =>
      have hz1 := hz1 a rfl
      have eL : lTown (kt K) (kn K) P l = rb r2 (fun b => .inl ((scp (scp (pT P) 0 a.1) 1 b.1, P.2), b.2)) := by rw [eL, ← hr2]; rfl
      cases r2 with
      | inr f => exact over h4 f _ _ eL Z4 pp
      | inl b =>
        have hz2 := hz2 b rfl
        have ne : xfl h4 (ks K) 75 ≠ 5 := fun w => by
          obtain ⟨f, w⟩ := Z4.s5.mp w
          cases w
        have R4 := R.keep pp Z
        have tt4 := R4.1.2.1
        have y0 := R4.1.1
        obtain ⟨t, ht⟩ : ∃ t, t = xfl h4 (ks K) 70 := ⟨_, rfl⟩
        obtain ⟨R4Y, R4F⟩ := R4
        rw [← ht] at tt4 y0 R4Y R4F
        have zz := Z4.1.1
        have tm4 := Z4.tm
        have e70 : xfl (xputf h4 t 133 z1) (ks K) 70 = t := by rw [xfl_putf, if_neg (by omega)]; exact ht.symm
        have ok := lTown_ok (tp := kt K) (n := kn K) (q := ((scp (scp (pT P) 0 a.1) 1 b.1, P.2), b.2)) eL I.1 (Z.2.2 l rfl)
        have lt := ok.2.2
        have lt : le_ l < le_ b.2 := lt
        have F : MTf (xputf (xputf h4 t 133 z1) t 134 z2) t (scp (scp (pT P) 0 a.1) 1 b.1, P.2) (le_ b.2) := by
          obtain ⟨⟨g1, g2, g3, g4, g5, g6, g7, g8⟩, ⟨g9, g10, g11⟩, F⟩ := R4F
          have fx : ∀ f, f ≠ 133 → f ≠ 134 → xfl (xputf (xputf h4 t 133 z1) t 134 z2) t f = xfl h4 t f := fun f n3 n4 => by rw [xfl_putf, if_neg (fun w => n4 w.2), xfl_putf, if_neg (fun w => n3 w.2)]
          refine ⟨⟨?_, ?_, (fx _ (by decide) (by decide)).trans g3, (fx _ (by decide) (by decide)).trans g4, (fx _ (by decide) (by decide)).trans g5, (fx _ (by decide) (by decide)).trans g6, (fx _ (by decide) (by decide)).trans g7, (fx _ (by decide) (by decide)).trans g8⟩, ⟨(fx _ (by decide) (by decide)).trans g9, by rw [fx _ (by decide) (by decide)]; exact g10, by rw [fx _ (by decide) (by decide)]; omega⟩, F⟩
          · rw [xfl_putf, if_neg (fun w => absurd w.2 (by decide)), xfl_putf, if_pos ⟨rfl, rfl⟩, hz1]
            rfl
          · rw [xfl_putf, if_pos ⟨rfl, rfl⟩, hz2]
            rfl
        have fin := MLin.live (P := P) (e := le_ l) eL Z4 pp (((FrTw.refl h4).f (a := t) (f := 133) (v := z1) y0.1 (by decide)).f (a := t) (f := 134) (v := z2) y0.1 (by decide)) R4Y ht.symm F
        refine Wp.vc 400 [] rfl ?_
        rw [← ht, e70]
        exact ⟨isF tm4 rfl, fun _ => ⟨isF tm4 rfl, isW tt4 rfl, isF tm4 rfl, isW tt4 rfl, trivial, fin⟩, fun w => absurd ne w⟩
  refine WpM.of rfl (Wp.vc 400 [15] rfl ?_)
  rw [f133]
  refine ⟨isF tm rfl, isF tt rfl, fun w => ?_, fun w => ?_⟩
  · refine at15 h _ Z (FrM.refl h) (fun l' e => by cases e; rw [e2]; decide) ?_
    exact if_pos (by omega)
  · refine Wp.callR (j := 0) rfl (Nat.le_of_ble_eq_true rfl) ⟨true, tm⟩ (m_flaw (d := d + 7) Z) (fun v h2 q => ?_)
    obtain ⟨rfl, Z2, p2⟩ := q
    refine at15 h2 _ Z2 p2 (fun l e => by cases e) ?_
    exact if_neg (by omega)
