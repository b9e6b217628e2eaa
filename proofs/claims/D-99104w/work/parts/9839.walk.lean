/-! WALKS, 78: WrongRoom's reader: noises, houses, people -/
set_option maxRecDepth 100000
set_option maxHeartbeats 4000000
theorem x_noiseLine {d : Nat} {K : XX} {c : Int} {h : XH} {l : LTk} {P : PT} (R : XZ K c h l) (X : XRt K h P) (I : PI P (le_ l)) : WpM (d + 8) 99 [.inr (.inr (ks K + 2))] h (XLin K (c + 1) (lNoise (kt K) (kn K) P l)) := by
  have zz := R.c.1
  have h30 : XQ K c h l P (xfl h (ks K + 2) 30) := XQ.of R X
  have s6 : xfl h (xfl h (ks K + 2) 30) 116 = tsc (pT P) 7 := X.1.1.2.2.1.2.2.2.2.2.2.2
  have tr := R.tr
  have tt := h30.tt
  unfold lNoise
  have at18 : ∀ z : Int, z = (if tsc (pT P) 7 < 4 then 1 else 0) → Wp (d + 8) 99 17 [some (.inr (.inr (ks K + 2))), none] [.inl z, .inr (.inr (ks K + 2))] h (XLin K (c + 1) (rb (rBegins (kt K) (kn K) (tsc (pT P) 7 < 4) (pT P) l) fun l1 => rb (rHouse (kt K) (kn K) P l1) fun h => rb (rNum (kt K) (kn K) 1 9 h.2) fun r => .inl ((scp (ntp (pT P) (h.1, 1, r.1)) 7 (tsc (pT P) 7 + 1), P.2), r.2))) := by
    intro z hz
    refine XEn.bind (j := 0) rfl (Nat.le_of_ble_eq_true rfl) ⟨true, tr⟩ ((x_begins (d := d + 2) R X hz).up (c' := c + 1) (by omega)) rfl rfl (fun l1 v h1 e1 q => ?_)
    obtain ⟨rfl, R1, p1⟩ := q
    have X1 := X.keep p1 zz I.1
    have lt8 := (rBegins_inv e1).1
    refine Wp.vc 400 [] rfl ?_
    refine XEn.bind (j := 0) rfl (Nat.le_of_ble_eq_true rfl) ⟨true, R1.tr⟩ ((x_house (d := d) R1 X1 I.o).up (c' := c + 1) (by omega)) rfl rfl (fun hq v h2 e2 q => ?_)
    obtain ⟨⟨rfl, i0⟩, R2, p2⟩ := q
    have X2 := X1.keep p2 R1.c.1 I.1
    have H2 := X2.1.1.2.2.2.1 hq.1 i0.1 i0.2
    have M := XM.new (cl := 14) (n := 2) R2 X2 I.1 (by decide)
    rw [show xar h2 (xfl h2 (xfl h2 (ks K + 2) 30) 105) hq.1 = hou K h2 hq.1 from rfl] at H2
    have num := H2.2.1.1
    have th := H2.1.2.2
    obtain ⟨t, ht⟩ : ∃ t, t = xfl h2 (ks K + 2) 30 := ⟨_, rfl⟩
    rw [← ht] at M
    obtain ⟨a, ha⟩ : ∃ a, a = xsz h2 := ⟨_, rfl⟩
    refine Wp.vc 400 [29] rfl ?_
    rw [num]
    refine ⟨isF th rfl, ?_⟩
    refine Wp.vc 400 [] rfl ?_
    rw [← ha] at M ⊢
    generalize xnewo h2 14 2 = h3 at M ⊢
    refine XEn.bind (j := 0) rfl (Nat.le_of_ble_eq_true rfl) ⟨true, M.1.tr⟩ (x_number (d := d + 2) M.1) rfl rfl (fun w v h4 e4 q => ?_)
    obtain ⟨rfl, R4, p4⟩ := q
    have M4 := M.fl R4 p4
    have ca := M4.2.2.2.2.1
    refine Wp.vc 400 [] rfl ?_
    refine Wp.callE (j := 0) rfl (Nat.le_of_ble_eq_true rfl) ⟨true, ca.2.2⟩ (x_Noise_init ca.2.2) ?_
    obtain ⟨M5, d5⟩ := M4.put (f := 130) (v := hq.1) (by decide)
    obtain ⟨M6, d6⟩ := M5.put (f := 132) (v := w.1) (by decide)
    generalize xputf (xputf h4 a 130 hq.1) a 132 w.1 = h6 at *
    have Q6 := M6.q
    have O6 := M6.2.2.2.2
    obtain ⟨z1, z2, z3, z4, z5⟩ := I.2.2.2.2.2.2.2.2.2.2.2.1
    have nt := x_noteP (d := d + 6) Q6 I O6.1 (Or.inr rfl) (by omega)
    refine Wp.vc 400 [] rfl ?_
    refine Wp.callE (j := 0) rfl (Nat.le_of_ble_eq_true rfl) ⟨true, M6.1.tr⟩ nt ?_
    have NX : NoteX h6 (kz K) a (hq.1, 1, w.1) := ⟨O6.2 130 (by decide), Or.inr ⟨rfl, O6.1, O6.2 132 (by decide)⟩⟩
    have a7 := Q6.2.1.1.2.1.2.2.1
    have nby : ∀ k, xty h6 (xfl h6 t 107) ≠ some (true, 1, k) := fun k w => by rw [a7.2.2] at w; cases w
    have s7 : xfl h6 t 116 = tsc (pT P) 7 := Q6.2.1.1.2.2.1.2.2.2.2.2.2.2
    have X7 := Q6.2.1.addN I.1 (q := (hq.1, 1, w.1)) (kk := 7) (f := 116) (n := tsc (pT P) 7 + 1) (Or.inr ⟨rfl, rfl⟩) (by rw [s7]) rfl NX
    have Q7 := Q6.put ((FrD.puta (i := ((tnt (pT P)).length : Int)) (v := a) a7.1 nby).trans (FrD.putf (f := 116) (v := tsc (pT P) 7 + 1) Q6.tt.2.1 (by decide))) X7
    have f7 : xfl (xputf (xputa h6 (xfl h6 t 107) ((tnt (pT P)).length : Int) a) t 116 (tsc (pT P) 7 + 1)) (ks K + 2) 31 = (if tsc (pT P) 0 = 0 then 0 else 1) := by
      rw [xfl_putf, if_neg (fun w => absurd w.2 (by decide))]
      exact M6.2.2.1.2
    have t30 := Q6.2.2.1
    have tr6 := M6.1.tr
    have tt6 := Q6.tt.1
    refine Wp.vc 400 [] rfl ?_
    simp only [xfl_puta, t30, s7]
    exact ⟨isF tr6 rfl, isF tt6 rfl, ⟨by omega, by omega⟩, isW tt6 rfl, trivial, XEn.ret rfl ⟨rfl, Q7.1, Q7.rt f7⟩⟩
  have y := at18 1
  have n := at18 0
  refine WpM.of rfl (Wp.vc 400 [17] rfl ?_)
  rw [s6]
  exact ⟨isF tr rfl, isF tt.1 rfl, fun w => n (if_neg (by omega)).symm, fun w => y (if_pos (by omega)).symm⟩
theorem x_House_init {d : Nat} {h : XH} {a b i : Int} (ta : xty h a = some (true, 11, none)) : WpM (d + 1) 283 [.inr (.inr a), .inr (.inr b), .inl i] h (XE none (xputf (xputf (xputf (xputf h a 117 b) a 118 i) a 124 23) a 125 (-2))) := by
  have n : WpM d 282 [.inr (.inr a), .inr (.inr b), .inl i] h (XE none (xputf (xputf h a 117 b) a 118 i)) := by
    refine WpM.of rfl (Wp.vc 400 [] rfl ?_)
    exact ⟨⟨_, _, ta⟩, isW ta rfl, isW ta rfl, trivial, rfl, rfl⟩
  refine WpM.of rfl (Wp.vc 400 [] rfl ?_)
  refine Wp.callE (j := 0) rfl (Nat.le_of_ble_eq_true rfl) ⟨true, ta⟩ n ?_
  have ta' : xty (xputf (xputf h a 117 b) a 118 i) a = some (true, 11, none) := ta
  refine Wp.vc 400 [] rfl ?_
  exact ⟨isW ta' rfl, isW ta' rfl, trivial, rfl, rfl⟩
theorem x_Person_init {d : Nat} {h : XH} {a b i : Int} (ta : xty h a = some (true, 12, none)) : WpM (d + 1) 285 [.inr (.inr a), .inr (.inr b), .inl i] h (XE none (xputf (xputf h a 117 b) a 118 i)) := by
  have n : WpM d 282 [.inr (.inr a), .inr (.inr b), .inl i] h (XE none (xputf (xputf h a 117 b) a 118 i)) := by
    refine WpM.of rfl (Wp.vc 400 [] rfl ?_)
    exact ⟨⟨_, _, ta⟩, isW ta rfl, isW ta rfl, trivial, rfl, rfl⟩
  refine WpM.of rfl (Wp.vc 400 [] rfl ?_)
  refine Wp.callE (j := 1) rfl (Nat.le_of_ble_eq_true rfl) ⟨true, ta⟩ n ?_
  refine Wp.vc 400 [] rfl ?_
  exact ⟨trivial, rfl, rfl⟩
theorem x_houseLine {d : Nat} {K : XX} {c : Int} {h : XH} {l : LTk} {P : PT} (R : XZ K c h l) (X : XRt K h P) (I : PI P (le_ l)) : WpM (d + 8) 86 [.inr (.inr (ks K + 2))] h (XLin K (c + 1) (lHouse (kt K) (kn K) P l)) := by
  have zz := R.c.1
  have h30 : XQ K c h l P (xfl h (ks K + 2) 30) := XQ.of R X
  have s6 : xfl h (xfl h (ks K + 2) 30) 111 = tnh (pT P) := X.1.1.2.2.1.2.2.1
  have tr := R.tr
  have tt := h30.tt
  have n7 := I.2.2.2.1
  unfold lHouse
  have at18 : ∀ z : Int, z = (if tnh (pT P) < 7 then 1 else 0) → Wp (d + 8) 86 18 [some (.inr (.inr (ks K + 2))), none] [.inl z, .inr (.inr (ks K + 2))] h (XLin K (c + 1) (rb (rBegins (kt K) (kn K) (tnh (pT P) < 7) (pT P) l) fun l1 => rb (rFresh (kt K) (kn K) P l1) fun w => rb (rAft (kt K) (kn K) (cw 11) 1 9 w.2) fun r => rb (rAft (kt K) (kn K) (cw 12) 1 99 r.2) fun t => rb (rAft (kt K) (kn K) (cw 13) 0 999 t.2) fun b => rb (rMust (kt K) (kn K) (cw 14) b.2) fun l6 => rb (rWord (kt K) (kn K) l6) fun sm => .inl (addH P w.1 r.1 t.1 b.1 sm.1, sm.2))) := by
    intro z hz
    refine XEn.bind (j := 0) rfl (Nat.le_of_ble_eq_true rfl) ⟨true, tr⟩ ((x_begins (d := d + 2) R X hz).up (c' := c + 1) (by omega)) rfl rfl (fun l1 v h1 e1 q => ?_)
    obtain ⟨rfl, R1, p1⟩ := q
    have X1 := X.keep p1 zz I.1
    have lt7 := (rBegins_inv e1).1
    have M := XM.new (cl := 11) (n := 11) R1 X1 I.1 (by decide)
    obtain ⟨t, ht⟩ : ∃ t, t = xfl h1 (ks K + 2) 30 := ⟨_, rfl⟩
    rw [← ht] at M
    obtain ⟨a, ha⟩ : ∃ a, a = xsz h1 := ⟨_, rfl⟩
    refine Wp.vc 400 [] rfl ?_
    rw [← ha] at M ⊢
    generalize xnewo h1 11 11 = h2 at M ⊢
    refine XEn.bind (j := 0) rfl (Nat.le_of_ble_eq_true rfl) ⟨true, M.1.tr⟩ (x_newName (d := d + 1) M.1 (M.q.rt M.2.2.1.2) I.o) rfl rfl (fun w v h3 e3 q => ?_)
    obtain ⟨⟨b, rfl, sb, xw⟩, R3, p3⟩ := q
    have M3 := M.fl R3 p3
    have ca := M3.2.2.2.2.1
    have s3 : xfl h3 t 111 = tnh (pT P) := M3.q.2.1.1.2.2.1.2.2.1
    refine Wp.vc 400 [] rfl ?_
    rw [M3.2.2.1.1, s3]
    refine ⟨isF M3.1.tr rfl, isF M3.q.tt.1 rfl, ?_⟩
    refine Wp.callE (j := 0) rfl (Nat.le_of_ble_eq_true rfl) ⟨true, ca.2.2⟩ (x_House_init ca.2.2) ?_
    obtain ⟨M4, d4⟩ := M3.put (f := 117) (v := b) (by decide)
    obtain ⟨M5, d5⟩ := M4.put (f := 118) (v := tnh (pT P)) (by decide)
    obtain ⟨M6, d6⟩ := M5.put (f := 124) (v := 23) (by decide)
    obtain ⟨M7, d7⟩ := M6.put (f := 125) (v := -2) (by decide)
    have sb := sb.d (d4.trans (d5.trans (d6.trans d7))) zz.2.1
    clear d4 d5 d6 d7
    generalize xputf (xputf (xputf (xputf h3 a 117 b) a 118 (tnh (pT P))) a 124 23) a 125 (-2) = h4 at *
    refine Wp.vc 400 [] rfl ?_
    refine XEn.bind (j := 0) rfl (Nat.le_of_ble_eq_true rfl) ⟨true, M7.1.tr⟩ (x_after (d := d) (k := 11) M7.1 (by decide)) rfl rfl (fun r v h5 e5 q => ?_)
    obtain ⟨rfl, R5, p5⟩ := q
    have M8 := M7.fl R5 p5
    have sb := sb.keep (p5.above zz.2.1)
    obtain ⟨M9, d9⟩ := M8.put (f := 120) (v := r.1) (by decide)
    have sb := sb.d d9 zz.2.1
    have cb9 := M8.2.2.2.2.1.2.2
    clear M7 d9
    refine Wp.vc 400 [] rfl ?_
    generalize xputf h5 a 120 r.1 = g10 at *
    refine ⟨isW cb9 rfl, ?_⟩
    refine XEn.bind (j := 0) rfl (Nat.le_of_ble_eq_true rfl) ⟨true, M9.1.tr⟩ (x_after (d := d) (k := 12) M9.1 (by decide)) rfl rfl (fun x v k10 e q => ?_)
    obtain ⟨rfl, R10, p⟩ := q
    have N10 := M9.fl R10 p
    have sb := sb.keep (p.above zz.2.1)
    obtain ⟨M10, dd⟩ := N10.put (f := 121) (v := x.1) (by decide)
    have sb := sb.d dd zz.2.1
    have cb10 := N10.2.2.2.2.1.2.2
    refine Wp.vc 400 [] rfl ?_
    generalize xputf k10 a 121 x.1 = g11 at *
    refine ⟨isW cb10 rfl, ?_⟩
    refine XEn.bind (j := 0) rfl (Nat.le_of_ble_eq_true rfl) ⟨true, M10.1.tr⟩ (x_after (d := d) (k := 13) M10.1 (by decide)) rfl rfl (fun y v k11 e q => ?_)
    obtain ⟨rfl, R11, p⟩ := q
    have N11 := M10.fl R11 p
    have sb := sb.keep (p.above zz.2.1)
    obtain ⟨M11, dd⟩ := N11.put (f := 122) (v := y.1) (by decide)
    have sb := sb.d dd zz.2.1
    have cb11 := N11.2.2.2.2.1.2.2
    refine Wp.vc 400 [] rfl ?_
    generalize xputf k11 a 122 y.1 = g12 at *
    refine ⟨isW cb11 rfl, ?_⟩
    refine XEn.bind (j := 0) rfl (Nat.le_of_ble_eq_true rfl) ⟨true, M11.1.tr⟩ (x_must (d := d + 1) (k := 14) M11.1 (by decide)) rfl rfl (fun l12 v k12 e q => ?_)
    obtain ⟨rfl, R12, p⟩ := q
    have M12 := M11.fl R12 p
    have sb := sb.keep (p.above zz.2.1)
    refine Wp.vc 400 [] rfl ?_
    refine XEn.bind (j := 0) rfl (Nat.le_of_ble_eq_true rfl) ⟨true, M12.1.tr⟩ (x_anyWord (d := d + 2) M12.1) rfl rfl (fun sm v k13 e13 q => ?_)
    obtain ⟨⟨b2, rfl, sb2⟩, R13, p⟩ := q
    obtain ⟨-, xs, -⟩ := rWord_inv e13 M12.1.2.2
    have M13 := M12.fl R13 p
    have sb := sb.keep (p.above zz.2.1)
    obtain ⟨M14, dd⟩ := M13.put (f := 119) (v := b2) (by decide)
    have sb := sb.d dd zz.2.1
    have sb2 := sb2.d dd zz.2.1
    have cb13 := M13.2.2.2.2.1.2.2
    clear dd p N10 N11 M12 M13 M11 M10 M9 M8
    refine Wp.vc 400 [] rfl ?_
    generalize xputf k13 a 119 b2 = g14 at *
    have Q := M14.q
    have O := M14.2.2.2.2
    have s14 : xfl g14 t 111 = tnh (pT P) := Q.2.1.1.2.2.1.2.2.1
    have a5 := Q.2.1.1.2.1.1
    have nby : ∀ k, xty g14 (xfl g14 t 105) ≠ some (true, 1, k) := fun k w => by rw [a5.2.2] at w; cases w
    have X15 := Q.2.1.addHs (r := r.1) (rt := x.1) (b := y.1) (w := w.1) (sm := sm.1) I.1 ⟨n7.1, lt7⟩ O.1 ⟨⟨O.2 118 (by decide), O.2 120 (by decide), O.2 121 (by decide), O.2 122 (by decide)⟩, O.2 123 (by decide), O.2 124 (by decide), O.2 125 (by decide), O.2 126 (by decide), O.2 127 (by decide)⟩ (by rw [show xfl g14 a 117 = b from O.2 117 (by decide)]; exact sb) (by rw [show xfl g14 a 119 = b2 from O.2 119 (by decide)]; exact sb2) xs (fun i i0 i1 q => by
      rcases (I.2.2.2.2.2.2.1 i i0 i1).2.2.2.1 with z | z <;> omega)
    have Q15 := Q.put ((FrD.puta (i := tnh (pT P)) (v := a) a5.1 nby).trans (FrD.putf (f := 111) (v := tnh (pT P) + 1) Q.tt.2.1 (by decide))) X15
    have f15 : xfl (xputf (xputa g14 (xfl g14 t 105) (tnh (pT P)) a) t 111 (tnh (pT P) + 1)) (ks K + 2) 31 = (if tsc (pT P) 0 = 0 then 0 else 1) := by
      rw [xfl_putf, if_neg (fun w => absurd w.2 (by decide))]
      exact M14.2.2.1.2
    have t30 := Q.2.2.1
    have tr14 := M14.1.tr
    have tt14 := Q.tt.1
    simp only [xfl_puta, t30, s14]
    exact ⟨isW cb13 rfl, isF tr14 rfl, isF tt14 rfl, isF tr14 rfl, isF tt14 rfl, isS a5.2.2 n7.1 (by omega) O.1.2.2 rfl, isF tr14 rfl, isF tt14 rfl, ⟨by omega, by omega⟩, isW tt14 rfl, trivial, XEn.ret rfl ⟨rfl, Q15.1, Q15.rt f15⟩⟩
  have y := at18 1
  have n := at18 0
  refine WpM.of rfl (Wp.vc 400 [18] rfl ?_)
  rw [s6]
  exact ⟨isF tr rfl, isF tt.1 rfl, fun w => n (if_neg (by omega)).symm, fun w => y (if_pos (by omega)).symm⟩
theorem x_personLine {d : Nat} {K : XX} {c : Int} {h : XH} {l : LTk} {P : PT} (R : XZ K c h l) (X : XRt K h P) (I : PI P (le_ l)) : WpM (d + 8) 96 [.inr (.inr (ks K + 2))] h (XLin K (c + 1) (lPerson (kt K) (kn K) P l)) := by
  have zz := R.c.1
  have h30 : XQ K c h l P (xfl h (ks K + 2) 30) := XQ.of R X
  have s6 : xfl h (xfl h (ks K + 2) 30) 114 = tpm (pT P) := X.1.1.2.2.1.2.2.2.2.2.1
  have tr := R.tr
  have tt := h30.tt
  have n4 := I.2.2.2.2.1
  unfold lPerson
  have at18 : ∀ z : Int, z = (if tpm (pT P) < 4 then 1 else 0) → Wp (d + 8) 96 17 [some (.inr (.inr (ks K + 2))), none] [.inl z, .inr (.inr (ks K + 2))] h (XLin K (c + 1) (rb (rBegins (kt K) (kn K) (tpm (pT P) < 4) (pT P) l) fun l1 => rb (rFresh (kt K) (kn K) P l1) fun w => rb (rMust (kt K) (kn K) (cw 19) w.2) fun l3 => rb (rHouse (kt K) (kn K) P l3) fun h => rb (rMust (kt K) (kn K) (cw 20) h.2) fun l5 => rb (rHouse (kt K) (kn K) P l5) fun a => .inl ((scp (hvp (hvp (pT P) 7 (tpm (pT P)) h.1) 8 (tpm (pT P)) a.1) 5 (tpm (pT P) + 1), pH P, pP P ++ [w.1], pN P ++ [(w.1, 1, tpm (pT P))]), a.2))) := by
    intro z hz
    refine XEn.bind (j := 0) rfl (Nat.le_of_ble_eq_true rfl) ⟨true, tr⟩ ((x_begins (d := d + 2) R X hz).up (c' := c + 1) (by omega)) rfl rfl (fun l1 v h1 e1 q => ?_)
    obtain ⟨rfl, R1, p1⟩ := q
    have X1 := X.keep p1 zz I.1
    have lt4 := (rBegins_inv e1).1
    have M := XM.new (cl := 12) (n := 4) R1 X1 I.1 (by decide)
    obtain ⟨t, ht⟩ : ∃ t, t = xfl h1 (ks K + 2) 30 := ⟨_, rfl⟩
    rw [← ht] at M
    obtain ⟨a, ha⟩ : ∃ a, a = xsz h1 := ⟨_, rfl⟩
    refine Wp.vc 400 [] rfl ?_
    rw [← ha] at M ⊢
    generalize xnewo h1 12 4 = h2 at M ⊢
    refine XEn.bind (j := 0) rfl (Nat.le_of_ble_eq_true rfl) ⟨true, M.1.tr⟩ (x_newName (d := d + 1) M.1 (M.q.rt M.2.2.1.2) I.o) rfl rfl (fun w v h3 e3 q => ?_)
    obtain ⟨⟨b, rfl, sb, xw⟩, R3, p3⟩ := q
    have M3 := M.fl R3 p3
    have ca := M3.2.2.2.2.1
    have s3 : xfl h3 t 114 = tpm (pT P) := M3.q.2.1.1.2.2.1.2.2.2.2.2.1
    refine Wp.vc 400 [] rfl ?_
    rw [M3.2.2.1.1, s3]
    refine ⟨isF M3.1.tr rfl, isF M3.q.tt.1 rfl, ?_⟩
    refine Wp.callE (j := 0) rfl (Nat.le_of_ble_eq_true rfl) ⟨true, ca.2.2⟩ (x_Person_init ca.2.2) ?_
    obtain ⟨M4, d4⟩ := M3.put (f := 117) (v := b) (by decide)
    obtain ⟨M5, d5⟩ := M4.put (f := 118) (v := tpm (pT P)) (by decide)
    have sb := sb.d (d4.trans d5) zz.2.1
    clear d4 d5
    generalize xputf (xputf h3 a 117 b) a 118 (tpm (pT P)) = h4 at *
    refine Wp.vc 400 [] rfl ?_
    refine XEn.bind (j := 0) rfl (Nat.le_of_ble_eq_true rfl) ⟨true, M5.1.tr⟩ (x_must (d := d + 1) (k := 19) M5.1 (by decide)) rfl rfl (fun l5 v h5 e q => ?_)
    obtain ⟨rfl, R5, p⟩ := q
    have M6 := M5.fl R5 p
    have sb := sb.keep (p.above zz.2.1)
    refine Wp.vc 400 [] rfl ?_
    refine XEn.bind (j := 0) rfl (Nat.le_of_ble_eq_true rfl) ⟨true, M6.1.tr⟩ (x_house (d := d) M6.1 (M6.q.rt M6.2.2.1.2) I.o) rfl rfl (fun hq v h6 e2 q => ?_)
    obtain ⟨⟨rfl, i0⟩, R6, p⟩ := q
    have M7 := M6.fl R6 p
    have sb := sb.keep (p.above zz.2.1)
    have H7 := M7.q.2.1.1.2.2.2.1 hq.1 i0.1 i0.2
    rw [← M7.q.hous] at H7
    obtain ⟨M8, dd⟩ := M7.put (f := 128) (v := hq.1) (by decide)
    have sb := sb.d dd zz.2.1
    have cb7 := M7.2.2.2.2.1.2.2
    refine Wp.vc 400 [] rfl ?_
    rw [H7.2.1.1]
    generalize xputf h6 a 128 hq.1 = h8 at *
    refine ⟨isF H7.1.2.2 rfl, isW cb7 rfl, ?_⟩
    refine XEn.bind (j := 0) rfl (Nat.le_of_ble_eq_true rfl) ⟨true, M8.1.tr⟩ (x_must (d := d + 1) (k := 20) M8.1 (by decide)) rfl rfl (fun l9 v h9 e q => ?_)
    obtain ⟨rfl, R9, p⟩ := q
    have M9 := M8.fl R9 p
    have sb := sb.keep (p.above zz.2.1)
    refine Wp.vc 400 [] rfl ?_
    refine XEn.bind (j := 0) rfl (Nat.le_of_ble_eq_true rfl) ⟨true, M9.1.tr⟩ (x_house (d := d) M9.1 (M9.q.rt M9.2.2.1.2) I.o) rfl rfl (fun aq v h10 e2 q => ?_)
    obtain ⟨⟨rfl, j0⟩, R10, p⟩ := q
    have M10 := M9.fl R10 p
    have sb := sb.keep (p.above zz.2.1)
    have H10 := M10.q.2.1.1.2.2.2.1 aq.1 j0.1 j0.2
    rw [← M10.q.hous] at H10
    obtain ⟨M11, dd⟩ := M10.put (f := 129) (v := aq.1) (by decide)
    have sb := sb.d dd zz.2.1
    have cb10 := M10.2.2.2.2.1.2.2
    clear dd p M3 M4 M5 M6 M7 M8 M9
    refine Wp.vc 400 [] rfl ?_
    rw [H10.2.1.1]
    generalize xputf h10 a 129 aq.1 = g14 at *
    have Q := M11.q
    have O := M11.2.2.2.2
    have s14 : xfl g14 t 114 = tpm (pT P) := Q.2.1.1.2.2.1.2.2.2.2.2.1
    have a5 := Q.2.1.1.2.1.2.1
    have nby : ∀ k, xty g14 (xfl g14 t 106) ≠ some (true, 1, k) := fun k w => by rw [a5.2.2] at w; cases w
    have X15 := Q.2.1.addPs (hm := hq.1) (at_ := aq.1) (w := w.1) I.1 ⟨n4.1, lt4⟩ O.1 ⟨O.2 128 (by decide), O.2 129 (by decide)⟩ (by rw [show xfl g14 a 117 = b from O.2 117 (by decide)]; exact sb)
    have Q15 := Q.put ((FrD.puta (i := tpm (pT P)) (v := a) a5.1 nby).trans (FrD.putf (f := 114) (v := tpm (pT P) + 1) Q.tt.2.1 (by decide))) X15
    have f15 : xfl (xputf (xputa g14 (xfl g14 t 106) (tpm (pT P)) a) t 114 (tpm (pT P) + 1)) (ks K + 2) 31 = (if tsc (pT P) 0 = 0 then 0 else 1) := by
      rw [xfl_putf, if_neg (fun w => absurd w.2 (by decide))]
      exact M11.2.2.1.2
    have t30 := Q.2.2.1
    have tr14 := M11.1.tr
    have tt14 := Q.tt.1
    simp only [xfl_puta, t30, s14]
    exact ⟨isF H10.1.2.2 rfl, isW cb10 rfl, isF tr14 rfl, isF tt14 rfl, isF tr14 rfl, isF tt14 rfl, isS a5.2.2 n4.1 (by omega) O.1.2.2 rfl, isF tr14 rfl, isF tt14 rfl, ⟨by omega, by omega⟩, isW tt14 rfl, trivial, XEn.ret rfl ⟨rfl, Q15.1, Q15.rt f15⟩⟩
  have y := at18 1
  have n := at18 0
  refine WpM.of rfl (Wp.vc 400 [17] rfl ?_)
  rw [s6]
  exact ⟨isF tr rfl, isF tt.1 rfl, fun w => n (if_neg (by omega)).symm, fun w => y (if_pos (by omega)).symm⟩
