/-! WALKS, 75: WrongRoom's reader: lines -/
set_option maxRecDepth 100000
set_option maxHeartbeats 4000000
theorem XZ.mono {K : XX} {c c' : Int} {h : XH} {l : LTk} (R : XZ K c h l) (hc : c ≤ c') : XZ K c' h l := by
  obtain ⟨⟨⟨a, b, z1, z2⟩, d⟩, e⟩ := R
  exact ⟨⟨⟨a, b, by omega, by omega⟩, d⟩, e⟩
/-- what is written by hand -/
def FrD (K : XX) (h g : XH) : Prop := XFr (fun z f => (z = ks K + 2 ∧ f = 31) ∨ (kz K ≤ z ∧ f < 160)) (fun z => kz K ≤ z ∧ ∀ m, xty h z ≠ some (true, 1, m)) h g ∧ xsz g = xsz h ∧ xsl g = xsl h
theorem FrD.t {K : XX} {h g : XH} (p : FrD K h g) : FrT (ks K) (kz K) h g := p.1.mono (fun z f _ w => by
  rcases w with w | w
  · exact Or.inl ⟨w.1, by omega, by omega⟩
  · exact Or.inr (Or.inr w.1)) (fun z _ w => Or.inr w.1)
theorem StrX.d {K : XX} {h g : XH} {a : Int} {w : List Int} (p : FrD K h g) (hz : ks K + 126 ≤ kz K) (s : StrX h (kz K) a w) : StrX g (kz K) a w := by
  obtain ⟨s1, s2, s3, s4⟩ := s
  have z1 := s1.1
  have fl : ∀ f, 160 ≤ f → xfl g a f = xfl h a f := fun f hf => p.1.2.2.2.1 a f s1.2.1 (fun w => by omega)
  have cg : ∀ {z t}, CellX h (kz K) z t → CellX g (kz K) z t := fun c => ⟨c.1, by have := c.2.1; have := p.1.2.1; omega, (p.1.2.2.1 _ c.2.1).trans c.2.2⟩
  refine ⟨cg s1, by rw [fl 160 (by decide)]; exact cg s2, (fl 161 (by decide)).trans s3, fun j hj => ?_⟩
  rw [fl 160 (by decide), p.1.2.2.2.2 _ _ s2.2.1 (fun w => w.2 _ s2.2.2)]
  exact s4 j hj
theorem XZ.put {K : XX} {c : Int} {h g : XH} {l : LTk} (R : XZ K c h l) (p : FrD K h g) : XZ K c g l := by
  have zz := R.c.1
  have hz : ks K + 126 ≤ kz K := zz.2.1
  obtain ⟨⟨⟨C, f25, z1, z2⟩, t25, t26, t27, t28, t29⟩, T, L⟩ := R
  have fl : ∀ f, f ≠ 31 → xfl g (ks K + 2) f = xfl h (ks K + 2) f := fun f hf => p.1.2.2.2.1 _ f (by omega) (fun w => by omega)
  refine ⟨⟨⟨C.keepT p.t, (fl 25 (by decide)).trans f25, by rw [p.2.1]; exact z1, by rw [p.2.2]; exact z2⟩, (fl 25 (by decide)).trans t25, (fl 26 (by decide)).trans t26, (fl 27 (by decide)).trans t27, fun e => (fl 28 (by decide)).trans (t28 e), fun e => ?_⟩, T.trans p.t, L⟩
  obtain ⟨sx, ho⟩ := t29 e
  rw [fl 29 (by decide)]
  refine ⟨sx.d p hz, ?_⟩
  have a1 := sx.1.1
  have f2 := p.1.2.2.2.1 (xfl h (ks K + 2) 29) 162 sx.1.2.1 (fun w => by omega)
  have f3 := p.1.2.2.2.1 (xfl h (ks K + 2) 29) 163 sx.1.2.1 (fun w => by omega)
  unfold HashOK
  rw [f2, f3]
  exact ho
theorem XZ.new {K : XX} {c : Int} {h : XH} {l : LTk} {cl n : Nat} (R : XZ K c h l) (hn : n ≤ 12) : XZ K (c + 1) (xnewo h cl n) l := by
  have zz := R.c.1
  obtain ⟨⟨⟨C, f25, z1, z2⟩, t25, t26, t27, t28, t29⟩, T, L⟩ := R
  have p : FrL (ks K) (kz K) h (xnewo h cl n) := XFr.newo (XFr.refl h)
  have fl : ∀ f, xfl (xnewo h cl n) (ks K + 2) f = xfl h (ks K + 2) f := fun f => by rw [xfl_newo, if_neg (by omega)]
  refine ⟨⟨⟨C.keep p, (fl 25).trans f25, ?_, ?_⟩, (fl 25).trans t25, (fl 26).trans t26, (fl 27).trans t27, fun e => (fl 28).trans (t28 e), fun e => ?_⟩, T.trans p.t, L⟩
  · rw [xsz_newo]
    omega
  · rw [xsl_newo]
    omega
  · obtain ⟨sx, ho⟩ := t29 e
    rw [fl 29]
    refine ⟨sx.keep (p.above zz.2.1), ?_⟩
    have ne : xfl h (ks K + 2) 29 ≠ xsz h := by have := sx.1.2.1; omega
    unfold HashOK
    rw [xfl_newo, xfl_newo, if_neg ne, if_neg ne]
    exact ho
/-- the town under way: at t -/
def XQ (K : XX) (c : Int) (h : XH) (l : LTk) (P : PT) (t : Int) : Prop := XZ K c h l ∧ XTn (kz K) h t P ∧ xfl h (ks K + 2) 30 = t ∧ xty h 0 = none
theorem XQ.of {K : XX} {c : Int} {h : XH} {l : LTk} {P : PT} (R : XZ K c h l) (X : XRt K h P) : XQ K c h l P (xfl h (ks K + 2) 30) := ⟨R, X.1, rfl, X.2.2⟩
theorem XQ.fl {K : XX} {c : Int} {h g : XH} {l l' : LTk} {P : PT} {t : Int} (Q : XQ K c h l P t) (N : NI P) (R : XZ K c g l') (p : FrL (ks K) (kz K) h g) : XQ K c g l' P t := by
  have zz := Q.1.c.1
  exact ⟨R, Q.2.1.keep (p.above zz.2.1) N, (p.f3 zz (by decide)).trans Q.2.2.1, (p.2.2.1 0 (by omega)).trans Q.2.2.2⟩
theorem XQ.put {K : XX} {c : Int} {h g : XH} {l : LTk} {P P' : PT} {t : Int} (Q : XQ K c h l P t) (p : FrD K h g) (X : XTn (kz K) g t P') : XQ K c g l P' t := by
  have zz := Q.1.c.1
  refine ⟨Q.1.put p, X, ?_, (p.1.2.2.1 0 (by omega)).trans Q.2.2.2⟩
  rw [p.1.2.2.2.1 (ks K + 2) 30 (by omega) (fun w => by omega)]
  exact Q.2.2.1
theorem XQ.tt {K : XX} {c : Int} {h : XH} {l : LTk} {P : PT} {t : Int} (Q : XQ K c h l P t) : xty h t = some (true, 10, none) ∧ kz K ≤ t ∧ t < xsz h := ⟨Q.2.1.1.1.2.2, Q.2.1.1.1.1, Q.2.1.1.1.2.1⟩
theorem FrD.putf {K : XX} {h : XH} {a v : Int} {f : Nat} (ha : kz K ≤ a) (hf : f < 160) : FrD K h (xputf h a f v) := ⟨(XFr.refl h).putf (Or.inr (Or.inr ⟨ha, hf⟩)), rfl, rfl⟩
theorem FrD.trans {K : XX} {h g k : XH} (p : FrD K h g) (q : FrD K g k) : FrD K h k := ⟨p.1.trans q.1 (fun _ _ _ w => w) (fun z hz w => ⟨w.1, fun m => by rw [← p.1.2.2.1 z hz]; exact w.2 m⟩), q.2.1.trans p.2.1, q.2.2.trans p.2.2⟩
theorem FrD.puta {K : XX} {h : XH} {a i v : Int} (ha : kz K ≤ a) (hb : ∀ m, xty h a ≠ some (true, 1, m)) : FrD K h (xputa h a i v) := ⟨(XFr.refl h).puta (Or.inr ⟨ha, hb⟩), rfl, rfl⟩
/-- what a line ends with -/
abbrev XLin (K : XX) (c : Int) (r : Re (PT × LTk)) : XO → XH → Prop := XEn K c r (fun q v h' => v = none ∧ XZ K c h' q.2 ∧ XRt K h' q.1)
theorem x_townLine {d : Nat} {K : XX} {c : Int} {h : XH} {l : LTk} {P : PT} (R : XZ K c h l) (X : XRt K h P) (I : PI P (le_ l)) : WpM (d + 8) 81 [.inr (.inr (ks K + 2))] h (XLin K (c + 1) (lTown (kt K) (kn K) P l)) := by
  have R := R.mono (c' := c + 1) (by omega)
  have f31 := X.2.1
  have tr := R.tr
  unfold lTown
  by_cases told : tsc (pT P) 0 = 0
  · rw [if_pos told] at f31 ⊢
    refine WpM.of rfl (Wp.vc 400 [] rfl ?_)
    rw [f31]
    refine ⟨isF tr rfl, fun _ => ?_, fun c => absurd rfl c⟩
    refine R.nextK rfl (Nat.le_of_ble_eq_true rfl) (fun h1 R1 p1 => ?_)
    have Q := (XQ.of R X).fl I.1 R1 p1
    have f31 : xfl h1 (ks K + 2) 31 = 0 := (p1.f3 R.c.1 (by decide)).trans f31
    generalize xfl h (ks K + 2) 30 = t at Q
    refine Wp.vc 400 [] rfl ?_
    rw [Q.2.2.1]
    refine ⟨isF R1.tr rfl, ?_⟩
    refine XEn.bind (j := 0) rfl (Nat.le_of_ble_eq_true rfl) ⟨true, R1.tr⟩ (x_after (d := d) (k := 9) R1 (by decide)) rfl rfl (fun a v h2 e q => ?_)
    obtain ⟨rfl, R2, p2⟩ := q
    have Q2 := Q.fl I.1 R2 p2
    have Q3 := Q2.put (FrD.putf (f := 109) (v := a.1) Q2.tt.2.1 (by decide)) (Q2.2.1.sc I.1 (v := a.1) (k := 0) (Or.inl ⟨rfl, rfl⟩))
    have f31 : xfl (xputf h2 t 109 a.1) (ks K + 2) 31 = 0 := by
      rw [xfl_putf, if_neg (fun w => absurd w.2 (by decide))]
      exact (p2.f3 R1.c.1 (by decide)).trans f31
    have tt := Q2.tt.1
    refine Wp.vc 400 [] rfl ?_
    rw [Q3.2.2.1]
    generalize xputf h2 t 109 a.1 = h3 at Q3 f31 ⊢
    have R3 := Q3.1
    refine ⟨isW tt rfl, isF R3.tr rfl, ?_⟩
    refine XEn.bind (j := 0) rfl (Nat.le_of_ble_eq_true rfl) ⟨true, R3.tr⟩ (x_after (d := d) (k := 10) R3 (by decide)) rfl rfl (fun b v h4 e2 q => ?_)
    obtain ⟨rfl, R4, p4⟩ := q
    have Q4 := Q3.fl (I.1.cg rfl rfl) R4 p4
    have N4 : NI (scp (pT P) 0 a.1, P.2) := I.1.cg rfl rfl
    have Q5 := Q4.put (FrD.putf (f := 110) (v := b.1) Q4.tt.2.1 (by decide)) (Q4.2.1.sc N4 (v := b.1) (k := 1) (Or.inr (Or.inl ⟨rfl, rfl⟩)))
    have zz := R4.c.1
    have p6 : FrD K (xputf h4 t 110 b.1) (xputf (xputf h4 t 110 b.1) (ks K + 2) 31 1) := ⟨(XFr.refl _).putf (Or.inr (Or.inl ⟨rfl, rfl⟩)), rfl, rfl⟩
    have ab : Above (kz K) (xputf h4 t 110 b.1) (xputf (xputf h4 t 110 b.1) (ks K + 2) 31 1) := Above.of ((XFr.refl _).putf (W := fun z f => z = ks K + 2 ∧ f = 31) (A := fun _ => False) (Or.inr ⟨rfl, rfl⟩)) (fun z f hz _ _ w => by omega) (fun _ _ w => w)
    have Q6 := Q5.put p6 (Q5.2.1.keep ab (N4.cg (T := scp (scp (pT P) 0 a.1) 1 b.1) rfl rfl))
    have r1 : 1 ≤ a.1 := by
      obtain ⟨-, r, -⟩ := rAft_inv (tp := kt K) e R1.2.2
      exact r.1
    have tt := Q4.tt.1
    have tr5 := Q5.1.tr
    refine Wp.vc 400 [] rfl ?_
    refine ⟨isW tt rfl, ⟨isW tr5 rfl, by decide, by decide⟩, trivial, XEn.ret rfl ⟨rfl, Q6.1, ?_, ?_, Q6.2.2.2⟩⟩
    · rw [Q6.2.2.1]
      exact Q6.2.1
    · rw [xfl_putf, if_pos ⟨rfl, rfl⟩]
      show (1 : Int) = if a.1 = 0 then 0 else 1
      rw [if_neg (by omega)]
  · rw [if_neg told] at f31 ⊢
    refine WpM.of rfl (Wp.vc 400 [] rfl ?_)
    rw [f31]
    refine ⟨isF tr rfl, fun q => absurd q (by decide), fun _ => ?_⟩
    exact R.failK rfl rfl (Nat.le_of_ble_eq_true rfl) rfl rfl
theorem XQ.rt {K : XX} {c : Int} {h : XH} {l : LTk} {P : PT} {t : Int} (Q : XQ K c h l P t) (e : xfl h (ks K + 2) 31 = if tsc (pT P) 0 = 0 then 0 else 1) : XRt K h P := by
  refine ⟨?_, e, Q.2.2.2⟩
  rw [Q.2.2.1]
  exact Q.2.1
theorem XTn.hk {z0 t i : Int} {h g : XH} {P : PT} (p : Above z0 h g) (X : XTn z0 h t P) : xar g (xfl g t 105) i = xar h (xfl h t 105) i := by
  rw [X.1.1.fl p 105 (by decide) (by decide), X.1.2.1.1.ar p]
theorem XQ.hous {K : XX} {c : Int} {h : XH} {l : LTk} {P : PT} {t i : Int} (Q : XQ K c h l P t) : hou K h i = xar h (xfl h t 105) i := by
  unfold hou
  rw [Q.2.2.1]
theorem x_openLine {d : Nat} {K : XX} {c : Int} {h : XH} {l : LTk} {P : PT} (R : XZ K c h l) (X : XRt K h P) (I : PI P (le_ l)) : WpM (d + 8) 93 [.inr (.inr (ks K + 2))] h (XLin K (c + 1) (lOpen (kt K) (kn K) P l)) := by
  have R := R.mono (c' := c + 1) (by omega)
  have f31 := X.2.1
  have zz := R.c.1
  unfold lOpen
  refine WpM.of rfl (Wp.vc 400 [] rfl ?_)
  refine XEn.bind (j := 0) rfl (Nat.le_of_ble_eq_true rfl) ⟨true, R.tr⟩ (x_begins (d := d + 2) (z := 1) (can := True) R X (if_pos trivial).symm) rfl rfl (fun l1 v h1 e1 q => ?_)
  obtain ⟨rfl, R1, p1⟩ := q
  have X1 := X.keep p1 zz I.1
  refine Wp.vc 400 [] rfl ?_
  refine XEn.bind (j := 0) rfl (Nat.le_of_ble_eq_true rfl) ⟨true, R1.tr⟩ (x_houseHere (d := d + 1) R1 X1 I.o) rfl rfl (fun hq v h2 e2 q => ?_)
  obtain ⟨⟨rfl, el, i0⟩, R2, p2⟩ := q
  have X2 := X1.keep p2 R1.c.1 I.1
  have Q := XQ.of R2 X2
  have f31 : xfl h2 (ks K + 2) 31 = _ := (p2.f3 R1.c.1 (by decide)).trans ((p1.f3 zz (by decide)).trans f31)
  obtain ⟨i, l2⟩ := hq
  have el : l2 = l1 := el
  subst el
  have i0 : 0 ≤ i ∧ i < tnh (pT P) := i0
  obtain ⟨t, ht⟩ : ∃ t, t = xfl h2 (ks K + 2) 30 := ⟨_, rfl⟩
  rw [← ht] at Q
  show Wp _ _ _ _ (.inr (.inr (hou K h2 i)) :: _) _ _
  rw [Q.hous]
  obtain ⟨a, ha⟩ : ∃ a, a = xar h2 (xfl h2 t 105) i := ⟨_, rfl⟩
  have ca := (Q.2.1.1.2.2.2.1 i i0.1 i0.2).1
  have fa := (Q.2.1.2.2.2 i i0.1 i0.2).1
  rw [← ha] at ca fa ⊢
  dsimp only
  clear ht X2 X1 p1 p2
  by_cases nine : thv (pT P) 9 i = 0
  · rw [if_pos nine]
    refine Wp.vc 400 [] rfl ?_
    rw [fa, nine]
    refine ⟨isF ca.2.2 rfl, fun _ => ?_, fun c => absurd rfl c⟩
    refine R2.nextK rfl (Nat.le_of_ble_eq_true rfl) (fun h3 R3 p3 => ?_)
    have Q3 := Q.fl I.1 R3 p3
    have A3 := p3.above zz.2.1
    have ha3 : xar h3 (xfl h3 t 105) i = a := (Q.2.1.hk A3).trans ha.symm
    have ca3 := ca.keep A3
    have f3 := (p3.f3 R2.c.1 (f := 31) (by decide)).trans f31
    clear f31 fa
    refine Wp.vc 400 [] rfl ?_
    refine XEn.bind (j := 0) rfl (Nat.le_of_ble_eq_true rfl) ⟨true, R3.tr⟩ (x_after (d := d) (k := 16) R3 (by decide)) rfl rfl (fun x v h4 e4 q => ?_)
    obtain ⟨rfl, R4, p4⟩ := q
    have Q4 := Q3.fl I.1 R4 p4
    have A4 := p4.above zz.2.1
    have ha4 : xar h4 (xfl h4 t 105) i = a := (Q3.2.1.hk A4).trans ha3
    have ca4 := ca3.keep A4
    have f4 := (p4.f3 R3.c.1 (f := 31) (by decide)).trans f3
    have X5 := Q4.2.1.hf I.1 (v := x.1) (q := 4) (f := 123) i0 (Or.inl ⟨rfl, rfl⟩)
    rw [ha4] at X5
    have Q5 := Q4.put (FrD.putf (f := 123) (v := x.1) ca.1 (by decide)) X5
    have ha5 : xar (xputf h4 a 123 x.1) (xfl (xputf h4 a 123 x.1) t 105) i = a := by
      rw [xfl_putf, if_neg (fun w => absurd w.2 (by decide))]
      exact ha4
    have f5 : xfl (xputf h4 a 123 x.1) (ks K + 2) 31 = (if tsc (pT P) 0 = 0 then 0 else 1) := by
      rw [xfl_putf, if_neg (fun w => absurd w.2 (by decide))]
      exact f4
    have g5 : xfl (xputf h4 a 123 x.1) a 123 = x.1 := by rw [xfl_putf, if_pos ⟨rfl, rfl⟩]
    have ca5 : CellX (xputf h4 a 123 x.1) (kz K) a (true, 11, none) := ca4
    refine Wp.vc 400 [] rfl ?_
    rw [g5]
    generalize xputf h4 a 123 x.1 = h5 at *
    have R5 := Q5.1
    have N5 : NI (hvp (pT P) 4 i x.1, P.2) := I.1.cg rfl rfl
    refine ⟨isW ca4.2.2 rfl, isF ca5.2.2 rfl, ?_⟩
    refine XEn.bind (j := 0) rfl (Nat.le_of_ble_eq_true rfl) ⟨true, R5.tr⟩ (x_after (d := d) (k := 17) R5 (by decide)) rfl rfl (fun y v h6 e6 q => ?_)
    obtain ⟨rfl, R6, p6⟩ := q
    have Q6 := Q5.fl N5 R6 p6
    have A6 := p6.above zz.2.1
    have ha6 : xar h6 (xfl h6 t 105) i = a := (Q5.2.1.hk A6).trans ha5
    have ca6 := ca5.keep A6
    have f6 := (p6.f3 R5.c.1 (f := 31) (by decide)).trans f5
    have X7 := Q6.2.1.hf N5 (v := y.1) (q := 5) (f := 124) i0 (Or.inr (Or.inl ⟨rfl, rfl⟩))
    rw [ha6] at X7
    have Q7 := Q6.put (FrD.putf (f := 124) (v := y.1) ca.1 (by decide)) X7
    have ha7 : xar (xputf h6 a 124 y.1) (xfl (xputf h6 a 124 y.1) t 105) i = a := by
      rw [xfl_putf, if_neg (fun w => absurd w.2 (by decide))]
      exact ha6
    have N7 : NI (hvp (hvp (pT P) 4 i x.1) 5 i y.1, P.2) := I.1.cg rfl rfl
    have X8 := Q7.2.1.hf N7 (v := 1) (q := 9) (f := 126) i0 (Or.inr (Or.inr ⟨rfl, rfl⟩))
    rw [ha7] at X8
    have Q8 := Q7.put (FrD.putf (f := 126) (v := 1) ca.1 (by decide)) X8
    have N8 : NI (hvp (hvp (hvp (pT P) 4 i x.1) 5 i y.1) 9 i 1, P.2) := I.1.cg rfl rfl
    have s3 : xfl (xputf (xputf h6 a 124 y.1) a 126 1) t 112 = tsc (pT P) 3 := Q8.2.1.1.2.2.1.2.2.2.1
    have tt8 := Q8.tt
    have tr8 := Q8.1.tr
    have Q9 := Q8.put (FrD.putf (f := 112) (v := tsc (pT P) 3 + 1) tt8.2.1 (by decide)) (Q8.2.1.sc N8 (v := tsc (pT P) 3 + 1) (k := 3) (Or.inr (Or.inr (Or.inl ⟨rfl, rfl⟩))))
    have f9 : xfl (xputf (xputf (xputf h6 a 124 y.1) a 126 1) t 112 (tsc (pT P) 3 + 1)) (ks K + 2) 31 = (if tsc (pT P) 0 = 0 then 0 else 1) := by
      rw [xfl_putf, if_neg (fun w => absurd w.2 (by decide)), xfl_putf, if_neg (fun w => absurd w.2 (by decide)), xfl_putf, if_neg (fun w => absurd w.2 (by decide))]
      exact f6
    have g3 := I.2.2.2.2.2.1.1
    have ln := R.2.2.1
    have n11 := R.c.2.2.2.1
    refine Wp.vc 400 [] rfl ?_
    rw [Q8.2.2.1, s3]
    exact ⟨isW ca6.2.2 rfl, ⟨isW ca6.2.2 rfl, by decide, by decide⟩, isF tr8 rfl, isF tt8.1 rfl, ⟨by omega, by omega⟩, isW tt8.1 rfl, trivial, XEn.ret rfl ⟨rfl, Q9.1, Q9.rt f9⟩⟩
  · rw [if_neg nine]
    refine Wp.vc 400 [] rfl ?_
    rw [fa]
    refine ⟨isF ca.2.2 rfl, fun c => absurd c nine, fun _ => ?_⟩
    exact R2.failK rfl rfl (Nat.le_of_ble_eq_true rfl) rfl rfl
theorem x_wrongLine {d : Nat} {K : XX} {c : Int} {h : XH} {l : LTk} {P : PT} (R : XZ K c h l) (X : XRt K h P) (I : PI P (le_ l)) : WpM (d + 8) 91 [.inr (.inr (ks K + 2))] h (XLin K (c + 1) (lWrong (kt K) (kn K) P l)) := by
  have R := R.mono (c' := c + 1) (by omega)
  have f31 := X.2.1
  have zz := R.c.1
  unfold lWrong
  refine WpM.of rfl (Wp.vc 400 [] rfl ?_)
  refine XEn.bind (j := 0) rfl (Nat.le_of_ble_eq_true rfl) ⟨true, R.tr⟩ (x_begins (d := d + 2) (z := 1) (can := True) R X (if_pos trivial).symm) rfl rfl (fun l1 v h1 e1 q => ?_)
  obtain ⟨rfl, R1, p1⟩ := q
  have X1 := X.keep p1 zz I.1
  refine Wp.vc 400 [] rfl ?_
  refine XEn.bind (j := 0) rfl (Nat.le_of_ble_eq_true rfl) ⟨true, R1.tr⟩ (x_houseHere (d := d + 1) R1 X1 I.o) rfl rfl (fun hq v h2 e2 q => ?_)
  obtain ⟨⟨rfl, el, i0⟩, R2, p2⟩ := q
  have X2 := X1.keep p2 R1.c.1 I.1
  have Q := XQ.of R2 X2
  have f31 : xfl h2 (ks K + 2) 31 = _ := (p2.f3 R1.c.1 (by decide)).trans ((p1.f3 zz (by decide)).trans f31)
  obtain ⟨i, l2⟩ := hq
  have el : l2 = l1 := el
  subst el
  have i0 : 0 ≤ i ∧ i < tnh (pT P) := i0
  obtain ⟨t, ht⟩ : ∃ t, t = xfl h2 (ks K + 2) 30 := ⟨_, rfl⟩
  rw [← ht] at Q
  show Wp _ _ _ _ (.inr (.inr (hou K h2 i)) :: _) _ _
  rw [Q.hous]
  obtain ⟨a, ha⟩ : ∃ a, a = xar h2 (xfl h2 t 105) i := ⟨_, rfl⟩
  have ca := (Q.2.1.1.2.2.2.1 i i0.1 i0.2).1
  have fa := (Q.2.1.1.2.2.2.1 i i0.1 i0.2).2.1.2.2.2.2.2.2
  rw [← ha] at ca fa ⊢
  dsimp only
  clear ht X2 X1 p1 p2
  by_cases m2 : thv (pT P) 3 i = -2
  · rw [if_pos m2]
    refine Wp.vc 400 [] rfl ?_
    rw [fa, m2]
    refine ⟨isF ca.2.2 rfl, fun _ => ?_, fun c => absurd rfl c⟩
    refine R2.nextK rfl (Nat.le_of_ble_eq_true rfl) (fun h3 R3 p3 => ?_)
    have Q3 := Q.fl I.1 R3 p3
    have A3 := p3.above zz.2.1
    have ha3 : xar h3 (xfl h3 t 105) i = a := (Q.2.1.hk A3).trans ha.symm
    have ca3 := ca.keep A3
    have f3 := (p3.f3 R2.c.1 (f := 31) (by decide)).trans f31
    clear f31 fa
    refine Wp.vc 400 [] rfl ?_
    refine XEn.bind (j := 0) rfl (Nat.le_of_ble_eq_true rfl) ⟨true, R3.tr⟩ (x_must (d := d + 1) (k := 15) R3 (by decide)) rfl rfl (fun l4 v h4 e4 q => ?_)
    obtain ⟨rfl, R4, p4⟩ := q
    have Q4 := Q3.fl I.1 R4 p4
    have A4 := p4.above zz.2.1
    have ha4 : xar h4 (xfl h4 t 105) i = a := (Q3.2.1.hk A4).trans ha3
    have ca4 := ca3.keep A4
    have f4 := (p4.f3 R3.c.1 (f := 31) (by decide)).trans f3
    refine Wp.vc 400 [] rfl ?_
    refine XEn.bind (j := 0) rfl (Nat.le_of_ble_eq_true rfl) ⟨true, R4.tr⟩ (x_houseHere (d := d + 1) R4 (Q4.rt f4) I.o) rfl rfl (fun gq v h5 e5 q => ?_)
    obtain ⟨⟨rfl, el, g0⟩, R5, p5⟩ := q
    have Q5 := Q4.fl I.1 R5 p5
    have A5 := p5.above zz.2.1
    have ha5 : xar h5 (xfl h5 t 105) i = a := (Q4.2.1.hk A5).trans ha4
    have ca5 := ca4.keep A5
    have f5 := (p5.f3 R4.c.1 (f := 31) (by decide)).trans f4
    obtain ⟨g, l5⟩ := gq
    have el : l5 = l4 := el
    subst el
    have g0 : 0 ≤ g ∧ g < tnh (pT P) := g0
    show Wp _ _ _ _ (.inr (.inr (hou K h5 g)) :: _) _ _
    rw [Q5.hous]
    dsimp only
    obtain ⟨b, hb⟩ : ∃ b, b = xar h5 (xfl h5 t 105) g := ⟨_, rfl⟩
    have cb := (Q5.2.1.1.2.2.2.1 g g0.1 g0.2).1
    have nb := (Q5.2.1.1.2.2.2.1 g g0.1 g0.2).2.1.1
    have lb := (Q5.2.1.2.2.2 g g0.1 g0.2).2
    rw [← hb] at cb nb lb ⊢
    have ab : b = a ↔ g = i := ⟨fun e => Q5.2.1.1.apart g0 i0 (hb.symm.trans (e.trans ha5.symm)), fun e => by rw [hb, e, ha5]⟩
    have bad : (g = i ∨ lentB (pT P) g = true) → Wp (d + 8) 91 52 [some (.inr (.inr (ks K + 2))), some (.inr (.inr a)), some (.inr (.inr b))] [] h5 (XLin K (c + 1) (if g = i ∨ lentB (pT P) g = true then .inr (3, la l5) else .inl ((hvp (pT P) 3 i g, P.2), ga (kt K) (kn K) l5))) := by
      intro w
      rw [if_pos w]
      refine Wp.vc 400 [] rfl ?_
      exact R5.failK rfl rfl (Nat.le_of_ble_eq_true rfl) rfl rfl
    refine Wp.vc 400 [52, 58] rfl ?_
    rw [lb]
    refine ⟨fun e => bad (Or.inl (ab.mp e)), fun e => ⟨isF cb.2.2 rfl, fun z => ?_, fun z => ?_⟩⟩
    · have nl : ¬ lentB (pT P) g = true := fun w => by rw [if_pos w] at z; exact absurd z (by decide)
      have no : ¬ (g = i ∨ lentB (pT P) g = true) := fun w => w.elim (fun w => e (ab.mpr w)) nl
      rw [if_neg no]
      refine Wp.vc 400 [] rfl ?_
      refine R5.nextK rfl (Nat.le_of_ble_eq_true rfl) (fun h6 R6 p6 => ?_)
      have Q6 := Q5.fl I.1 R6 p6
      have A6 := p6.above zz.2.1
      have ha6 : xar h6 (xfl h6 t 105) i = a := (Q5.2.1.hk A6).trans ha5
      have hb6 : xar h6 (xfl h6 t 105) g = b := (Q5.2.1.hk A6).trans hb.symm
      have ca6 := ca5.keep A6
      have cb6 := cb.keep A6
      have nb6 := (Q6.2.1.1.2.2.2.1 g g0.1 g0.2).2.1.1
      rw [hb6] at nb6
      have f6 := (p6.f3 R5.c.1 (f := 31) (by decide)).trans f5
      have X7 := Q6.2.1.wr I.1 i0 g0 m2
      rw [ha6, hb6] at X7
      have Q7 := Q6.put ((FrD.putf (f := 125) (v := g) ca.1 (by decide)).trans (FrD.putf (f := 127) (v := 1) cb.1 (by decide))) X7
      have f7 : xfl (xputf (xputf h6 a 125 g) b 127 1) (ks K + 2) 31 = (if tsc (pT P) 0 = 0 then 0 else 1) := by
        rw [xfl_putf, if_neg (fun w => absurd w.2 (by decide)), xfl_putf, if_neg (fun w => absurd w.2 (by decide))]
        exact f6
      refine Wp.vc 400 [] rfl ?_
      rw [nb6]
      exact ⟨isF cb6.2.2 rfl, isW ca6.2.2 rfl, ⟨isW cb6.2.2 rfl, by decide, by decide⟩, trivial, XEn.ret rfl ⟨rfl, Q7.1, Q7.rt f7⟩⟩
    · refine bad (Or.inr ?_)
      by_cases w : lentB (pT P) g = true
      · exact w
      · rw [if_neg w] at z
        exact absurd rfl z
  · rw [if_neg m2]
    refine Wp.vc 400 [] rfl ?_
    rw [fa]
    refine ⟨isF ca.2.2 rfl, fun c => absurd c m2, fun _ => ?_⟩
    exact R2.failK rfl rfl (Nat.le_of_ble_eq_true rfl) rfl rfl
