/-! WALKS, 76: WrongRoom's reader: lines, on -/
set_option maxRecDepth 100000
set_option maxHeartbeats 4000000
theorem XTn.sk {z0 t : Int} {h g : XH} {P : PT} (p : Above z0 h g) (X : XTn z0 h t P) : xfl g t 108 = xfl h t 108 := X.1.1.fl p 108 (by decide) (by decide)
theorem x_streetLine {d : Nat} {K : XX} {c : Int} {h : XH} {l : LTk} {P : PT} (R : XZ K c h l) (X : XRt K h P) (I : PI P (le_ l)) : WpM (d + 8) 94 [.inr (.inr (ks K + 2))] h (XLin K (c + 1) (lStreet (kt K) (kn K) P l)) := by
  have R := R.mono (c' := c + 1) (by omega)
  have f31 := X.2.1
  have zz := R.c.1
  have h30 : XQ K (c + 1) h l P (xfl h (ks K + 2) 30) := XQ.of R X
  have s4 : xfl h (xfl h (ks K + 2) 30) 113 = tsc (pT P) 4 := X.1.1.2.2.1.2.2.2.2.1
  have tr := R.tr
  have tt := h30.tt
  have g4 := I.2.2.2.2.2.1.2.1
  have n7 := I.2.2.2.1
  unfold lStreet
  have at18 : ∀ z : Int, z = (if tsc (pT P) 4 < 10 then 1 else 0) → Wp (d + 8) 94 18 [some (.inr (.inr (ks K + 2))), none, none, none] [.inl z, .inr (.inr (ks K + 2))] h (XLin K (c + 1) (rb (rBegins (kt K) (kn K) (tsc (pT P) 4 < 10) (pT P) l) fun l1 => rb (rHouse (kt K) (kn K) P l1) fun h => rb (rHere P h.2) fun g => if g.1 = h.1 ∨ 0 < tst (pT P) h.1 g.1 then .inr (3, la g.2) else
      rb (rAft (kt K) (kn K) (cw 18) 1 99 (ga (kt K) (kn K) g.2)) fun m => .inl ((scp (stp_ (stp_ (pT P) h.1 g.1 m.1) g.1 h.1 m.1) 4 (tsc (pT P) 4 + 1), P.2), m.2))) := by
    intro z hz
    refine XEn.bind (j := 0) rfl (Nat.le_of_ble_eq_true rfl) ⟨true, tr⟩ (x_begins (d := d + 2) R X hz) rfl rfl (fun l1 v h1 e1 q => ?_)
    obtain ⟨rfl, R1, p1⟩ := q
    have X1 := X.keep p1 zz I.1
    refine Wp.vc 400 [] rfl ?_
    refine XEn.bind (j := 0) rfl (Nat.le_of_ble_eq_true rfl) ⟨true, R1.tr⟩ (x_house (d := d) R1 X1 I.o) rfl rfl (fun hq v h2 e2 q => ?_)
    obtain ⟨⟨rfl, i0⟩, R2, p2⟩ := q
    have X2 := X1.keep p2 R1.c.1 I.1
    have Q := XQ.of R2 X2
    have f31 : xfl h2 (ks K + 2) 31 = _ := (p2.f3 R1.c.1 (by decide)).trans ((p1.f3 zz (by decide)).trans f31)
    obtain ⟨i, l2⟩ := hq
    have i0 : 0 ≤ i ∧ i < tnh (pT P) := i0
    obtain ⟨t, ht⟩ : ∃ t, t = xfl h2 (ks K + 2) 30 := ⟨_, rfl⟩
    rw [← ht] at Q
    show Wp _ _ _ _ (.inr (.inr (hou K h2 i)) :: _) _ _
    rw [Q.hous]
    obtain ⟨a, ha⟩ : ∃ a, a = xar h2 (xfl h2 t 105) i := ⟨_, rfl⟩
    have ca := (Q.2.1.1.2.2.2.1 i i0.1 i0.2).1
    rw [← ha] at ca ⊢
    dsimp only
    clear ht X2 X1 p1 p2
    have R2 : XZ K (c + 1) h2 l2 := R2
    have Q : XQ K (c + 1) h2 l2 P t := Q
    refine Wp.vc 400 [] rfl ?_
    refine XEn.bind (j := 0) rfl (Nat.le_of_ble_eq_true rfl) ⟨true, R2.tr⟩ (x_houseHere (d := d + 1) R2 (Q.rt f31) I.o) rfl rfl (fun gq v h5 e5 q => ?_)
    obtain ⟨⟨rfl, el, g0⟩, R5, p5⟩ := q
    have Q5 := Q.fl I.1 R5 p5
    have A5 := p5.above zz.2.1
    have ha5 : xar h5 (xfl h5 t 105) i = a := (Q.2.1.hk A5).trans ha.symm
    have ca5 := ca.keep A5
    have f5 := (p5.f3 R2.c.1 (f := 31) (by decide)).trans f31
    obtain ⟨g, l5⟩ := gq
    have el : l5 = l2 := el
    subst el
    have g0 : 0 ≤ g ∧ g < tnh (pT P) := g0
    show Wp _ _ _ _ (.inr (.inr (hou K h5 g)) :: _) _ _
    rw [Q5.hous]
    dsimp only
    obtain ⟨b, hb⟩ : ∃ b, b = xar h5 (xfl h5 t 105) g := ⟨_, rfl⟩
    have cb := (Q5.2.1.1.2.2.2.1 g g0.1 g0.2).1
    have nb := (Q5.2.1.1.2.2.2.1 g g0.1 g0.2).2.1.1
    have na := (Q5.2.1.1.2.2.2.1 i i0.1 i0.2).2.1.1
    rw [← hb] at cb nb ⊢
    rw [ha5] at na
    have ab : b = a ↔ g = i := ⟨fun e => Q5.2.1.1.apart g0 i0 (hb.symm.trans (e.trans ha5.symm)), fun e => by rw [hb, e, ha5]⟩
    have bad : (g = i ∨ 0 < tst (pT P) i g) → Wp (d + 8) 94 54 [some (.inr (.inr (ks K + 2))), some (.inr (.inr a)), some (.inr (.inr b)), none] [] h5 (XLin K (c + 1) (if g = i ∨ 0 < tst (pT P) i g then .inr (3, la l5) else rb (rAft (kt K) (kn K) (cw 18) 1 99 (ga (kt K) (kn K) l5)) fun m => .inl ((scp (stp_ (stp_ (pT P) i g m.1) g i m.1) 4 (tsc (pT P) 4 + 1), P.2), m.2))) := by
      intro w
      rw [if_pos w]
      refine Wp.vc 400 [] rfl ?_
      exact R5.failK rfl rfl (Nat.le_of_ble_eq_true rfl) rfl rfl
    refine Wp.vc 400 [54, 60] rfl ?_
    rw [Q5.2.2.1, na, nb]
    refine ⟨fun e => bad (Or.inl (ab.mp e.symm)), fun e => ⟨isF R5.tr rfl, isF ca5.2.2 rfl, isF cb.2.2 rfl, ?_⟩⟩
    refine Wp.callE (j := 0) rfl (Nat.le_of_ble_eq_true rfl) ⟨true, Q5.tt.1⟩ (x_Tstreet Q5.2.1.1 ⟨i0.1, by omega⟩ ⟨g0.1, by omega⟩) ?_
    refine Wp.vc 400 [54, 60] rfl ?_
    refine ⟨fun z => ?_, fun z => bad (Or.inr (by omega))⟩
    have no : ¬ (g = i ∨ 0 < tst (pT P) i g) := fun w => w.elim (fun w => e (ab.mpr w).symm) (fun w => by omega)
    rw [if_neg no]
    refine Wp.vc 400 [] rfl ?_
    refine R5.nextK rfl (Nat.le_of_ble_eq_true rfl) (fun h6 R6 p6 => ?_)
    have Q6 := Q5.fl I.1 R6 p6
    have A6 := p6.above zz.2.1
    have f6 := (p6.f3 R5.c.1 (f := 31) (by decide)).trans f5
    refine Wp.vc 400 [] rfl ?_
    refine XEn.bind (j := 0) rfl (Nat.le_of_ble_eq_true rfl) ⟨true, R6.tr⟩ (x_after (d := d) (k := 18) R6 (by decide)) rfl rfl (fun m v h7 e7 q => ?_)
    obtain ⟨rfl, R7, p7⟩ := q
    have Q7 := Q6.fl I.1 R7 p7
    have A7 := p7.above zz.2.1
    have ha7 : xar h7 (xfl h7 t 105) i = a := (Q6.2.1.hk A7).trans ((Q5.2.1.hk A6).trans ha5)
    have hb7 : xar h7 (xfl h7 t 105) g = b := (Q6.2.1.hk A7).trans ((Q5.2.1.hk A6).trans hb.symm)
    have ca7 := (Q7.2.1.1.2.2.2.1 i i0.1 i0.2).1
    have cb7 := (Q7.2.1.1.2.2.2.1 g g0.1 g0.2).1
    have na7 := (Q7.2.1.1.2.2.2.1 i i0.1 i0.2).2.1.1
    have nb7 := (Q7.2.1.1.2.2.2.1 g g0.1 g0.2).2.1.1
    rw [ha7] at ca7 na7
    rw [hb7] at cb7 nb7
    have f7 := (p7.f3 R6.c.1 (f := 31) (by decide)).trans f6
    have a8 := Q7.2.1.1.2.1.2.2.2
    have X8 := Q7.2.1.str I.1 (v := m.1) (i := i) (g := g) ⟨i0.1, by omega⟩ ⟨g0.1, by omega⟩
    have nby : ∀ k, xty h7 (xfl h7 t 108) ≠ some (true, 1, k) := fun k w => by rw [a8.2.2] at w; cases w
    have Q8 := Q7.put ((FrD.puta (i := 7 * i + g) (v := m.1) a8.1 nby).trans (FrD.puta (i := 7 * g + i) (v := m.1) a8.1 nby)) X8
    have N8 : NI (stp_ (stp_ (pT P) i g m.1) g i m.1, P.2) := I.1.cg rfl rfl
    have s8 : xfl h7 t 113 = tsc (pT P) 4 := Q7.2.1.1.2.2.1.2.2.2.2.1
    have tt8 := Q8.tt
    have Q9 := Q8.put (FrD.putf (f := 113) (v := tsc (pT P) 4 + 1) tt8.2.1 (by decide)) (Q8.2.1.sc N8 (v := tsc (pT P) 4 + 1) (k := 4) (Or.inr (Or.inr (Or.inr ⟨rfl, rfl⟩))))
    have f9 : xfl (xputf (xputa (xputa h7 (xfl h7 t 108) (7 * i + g) m.1) (xfl h7 t 108) (7 * g + i) m.1) t 113 (tsc (pT P) 4 + 1)) (ks K + 2) 31 = (if tsc (pT P) 0 = 0 then 0 else 1) := by
      rw [xfl_putf, if_neg (fun w => absurd w.2 (by decide))]
      exact f7
    have tr7 := R7.tr
    have tt7 := Q7.tt.1
    have t30 := Q7.2.2.1
    refine Wp.vc 400 [] rfl ?_
    simp only [xfl_puta, t30, na7, nb7, s8]
    have b8 : ∀ x y : Int, (0 ≤ x ∧ x < 7) → (0 ≤ y ∧ y < 7) → xIsB h7 (xfl h7 t 108) 0 (7 * x + y) := fun x y x0 y0 => isB a8.2.2 (by omega) (by omega)
    exact ⟨isF tr7 rfl, isF tt7 rfl, isF ca7.2.2 rfl, ⟨by omega, by omega⟩, isF cb7.2.2 rfl, ⟨by omega, by omega⟩, b8 i g ⟨i0.1, by omega⟩ ⟨g0.1, by omega⟩, isF tr7 rfl, isF tt7 rfl, isF cb7.2.2 rfl, ⟨by omega, by omega⟩, isF ca7.2.2 rfl, ⟨by omega, by omega⟩, b8 g i ⟨g0.1, by omega⟩ ⟨i0.1, by omega⟩, isF tr7 rfl, isF tt7 rfl, ⟨by omega, by omega⟩, isW tt7 rfl, trivial, XEn.ret rfl ⟨rfl, Q9.1, Q9.rt f9⟩⟩
  have y := at18 1
  have n := at18 0
  refine WpM.of rfl (Wp.vc 400 [18] rfl ?_)
  rw [s4]
  exact ⟨isF tr rfl, isF tt.1 rfl, fun w => n (if_neg (by omega)).symm, fun w => y (if_pos (by omega)).symm⟩
