/-! WALKS, 5: WrongRoom.<init> -/
set_option maxRecDepth 100000
set_option maxHeartbeats 4000000
theorem ReaderL.keep {W : Int → Nat → Prop} {A : Int → Prop} {h g : XH} {a t : Int} (p : XFr W A h g) (L : ReaderL h a t) (hs : a + 2 < xsz h) (hW : ∀ f, xfin f = true → ¬ W a f) : ReaderL g a t := by
  obtain ⟨l1, l2, l3, l4, l5, l6⟩ := L
  obtain ⟨p1, p2, p3, p4, p5⟩ := p
  exact ⟨(p3 _ (by omega)).trans l1, (p3 _ (by omega)).trans l2, (p3 _ (by omega)).trans l3, (p4 a 21 (by omega) (hW 21 rfl)).trans l4, (p4 a 23 (by omega) (hW 23 rfl)).trans l5, (p4 a 22 (by omega) (hW 22 rfl)).trans l6⟩
theorem WaysL.keep {W : Int → Nat → Prop} {A : Int → Prop} {h g : XH} {a : Int} (p : XFr W A h g) (L : WaysL h a) (hs : a + 2 < xsz h) (hW : ∀ f, xfin f = true → ¬ W a f) : WaysL g a := by
  obtain ⟨l1, l2, l3, l4, l5⟩ := L
  obtain ⟨p1, p2, p3, p4, p5⟩ := p
  exact ⟨(p3 _ (by omega)).trans l1, (p3 _ (by omega)).trans l2, (p3 _ (by omega)).trans l3, (p4 a 45 (by omega) (hW 45 rfl)).trans l4, (p4 a 46 (by omega) (hW 46 rfl)).trans l5⟩
theorem RowsL.keep {W : Int → Nat → Prop} {A : Int → Prop} {h g : XH} {a : Int} (p : XFr W A h g) (L : RowsL h a) (hs : a + 4 < xsz h) (hW : ∀ f, xfin f = true → ¬ W a f) : RowsL g a := by
  obtain ⟨l1, l2, l3, l4, l5, l6, l7, l8, l9⟩ := L
  obtain ⟨p1, p2, p3, p4, p5⟩ := p
  exact ⟨(p3 _ (by omega)).trans l1, (p3 _ (by omega)).trans l2, (p3 _ (by omega)).trans l3, (p3 _ (by omega)).trans l4, (p3 _ (by omega)).trans l5, (p4 a 53 (by omega) (hW 53 rfl)).trans l6, (p4 a 54 (by omega) (hW 54 rfl)).trans l7, (p4 a 55 (by omega) (hW 55 rfl)).trans l8, (p4 a 56 (by omega) (hW 56 rfl)).trans l9⟩
theorem RmsL.keep {W : Int → Nat → Prop} {A : Int → Prop} {h g : XH} {r b k : Int} (p : XFr W A h g) (L : RmsL h r b k) (hr : r < xsz h) (hA : ¬ A r) (hW : ∀ z f, b ≤ z → z < b + 4 * k → xfin f = true → ¬ W z f) : RmsL g r b k := fun j h0 h1 => by
  obtain ⟨l1, l2⟩ := L j h0 h1
  exact ⟨l1.keep p (fun f hf => hW _ f (by omega) (by omega) hf), (p.2.2.2.2 r j hr hA).trans l2⟩
theorem ExL.keep {W : Int → Nat → Prop} {A : Int → Prop} {h g : XH} {a : Int} (p : XFr W A h g) (L : ExL h a) (hs : a + 3 < xsz h) (hW : ∀ z f, a ≤ z → z < a + 20 → xfin f = true → ¬ W z f) (hA : ¬ A (a + 1)) : ExL g a := by
  obtain ⟨l1, ⟨l2, l3⟩, ⟨l4, l5⟩, ⟨l6, l7⟩, l8⟩ := L
  have l9 := l8.keep p (by omega) hA (fun z f h1 h2 h3 => hW z f (by omega) (by omega) h3)
  obtain ⟨p1, p2, p3, p4, p5⟩ := p
  exact ⟨(p3 _ (by omega)).trans l1, ⟨(p3 _ (by omega)).trans l2, (p4 a 60 (by omega) (hW a 60 (by omega) (by omega) rfl)).trans l3⟩, ⟨(p3 _ (by omega)).trans l4, (p4 a 61 (by omega) (hW a 61 (by omega) (by omega) rfl)).trans l5⟩, ⟨(p3 _ (by omega)).trans l6, (p4 a 62 (by omega) (hW a 62 (by omega) (by omega) rfl)).trans l7⟩, l9⟩
abbrev X1W (a : Int) (i : Nat) : Int → Nat → Prop := fun z f => z = a ∧ i ≤ f ∧ (f = 0 ∨ f = 2 ∨ f = 6 ∨ (9 ≤ f ∧ f ≤ 19))
abbrev X1A (a : Int) : Int → Prop := fun z => z = a + 47 ∨ z = a + 48
def X1P (a : Int) (i : Nat) (n : Int) (C : XH → Prop) (g : XH) : XO → XH → Prop := XRet fun v h' => v = none ∧ XFr (X1W a i) (X1A a) g h' ∧ xsz h' = a + 126 ∧ xsl h' = xsl g + n ∧ C h'
/-- a stage ahead of another: its own component, the frame -/
theorem X1P.step {a : Int} {i j : Nat} {n m : Int} {C D : XH → Prop} {g k : XH} (p : XFr (X1W a i) (X1A a) g k) (hn : xsl k + m = xsl g + n) (hij : i ≤ j) (hC : ∀ h', XFr (X1W a j) (X1A a) k h' → D h' → C h') : ∀ o h', X1P a j m D k o h' → X1P a i n C g o h' := by
  rintro o h' ⟨v, rfl, rfl, q1, q2, q3, q4⟩
  exact ⟨none, rfl, rfl, p.trans q1 (fun z f _ w => ⟨w.1, by omega, w.2.2⟩) (fun _ _ w => w), q2, by omega, hC h' q1 q4⟩
def X1C20 (a : Int) (h : XH) : Prop := RmsL h (a + 47) (a + 50) 16 ∧ RmsL h (a + 48) (a + 114) 3
theorem x1_loop2 {d : Nat} {g : XH} {a : Int} (y : xty g a = some (true, 0, none)) (s : xsz g = a + 114) (e18 : xfl g a 18 = a + 48) (y48 : xty g (a + 48) = some (true, 4, some 3)) (R : RmsL g (a + 47) (a + 50) 16) : Wp (d + 5) 1 175 [some (.inr (.inr a)), some (.inl 0)] [] g (X1P a 20 60 (X1C20 a) g) := by
  have key : ∀ (k : Int) (h : XH), k ≤ 3 → (0 ≤ k ∧ xsz h = a + 114 + 4 * k ∧ xsl h = xsl g + 20 * k ∧ RmsL h (a + 48) (a + 114) k ∧ XFr (X1W a 20) (fun z => z = a + 48) g h) → Wp (d + 5) 1 175 [some (.inr (.inr a)), some (.inl k)] [] h (X1P a 20 60 (X1C20 a) g) := by
    refine loopUp (G := fun k h => Wp (d + 5) 1 175 [some (.inr (.inr a)), some (.inl k)] [] h (X1P a 20 60 (X1C20 a) g)) 3 ?_ ?_
    · rintro k h ⟨i0, i1, i2, i3, i5⟩ hk ih
      have f1 := (i5.2.2.2.1 a 18 (by omega) (fun w => by omega)).trans e18
      have y0 := (i5.2.2.1 a (by omega)).trans y
      have y1 := (i5.2.2.1 (a + 48) (by omega)).trans y48
      refine Wp.vc 400 [175] rfl ?_
      refine ⟨fun c => absurd c (by omega), fun _ => ⟨isF y0 rfl, ?_⟩⟩
      refine Wp.callR (j := 0) rfl (Nat.le_of_ble_eq_true rfl) ⟨true, (by (first | assumption | ((try simp only [xcs_putf, xty_putf, xar_putf, xsz_putf, xsl_putf, xfl_putf, xcs_puta, xty_puta, xfl_puta, xsz_puta, xsl_puta, xar_puta, xcs_copy, xty_copy, xfl_copy, xsz_copy, xsl_copy, xar_copy, xcs_newo, xar_newo, xsz_newo, xsl_newo, xty_newo, xfl_newo, xcs_newa, xfl_newa, xsz_newa, xsl_newa, xty_newa, xar_newa, and_true, true_and, and_false, false_and, ite_true, ite_false, eq_self, and_self]) <;> (repeat (first | rw [if_pos (by omega)] | rw [if_neg (by omega)])) <;> (first | assumption | rfl | omega))))⟩ (x_Rooms_init (by (first | assumption | ((try simp only [xcs_putf, xty_putf, xar_putf, xsz_putf, xsl_putf, xfl_putf, xcs_puta, xty_puta, xfl_puta, xsz_puta, xsl_puta, xar_puta, xcs_copy, xty_copy, xfl_copy, xsz_copy, xsl_copy, xar_copy, xcs_newo, xar_newo, xsz_newo, xsl_newo, xty_newo, xfl_newo, xcs_newa, xfl_newa, xsz_newa, xsl_newa, xty_newa, xar_newa, and_true, true_and, and_false, false_and, ite_true, ite_false, eq_self, and_self]) <;> (repeat (first | rw [if_pos (by omega)] | rw [if_neg (by omega)])) <;> (first | assumption | rfl | omega)))) (by (first | assumption | ((try simp only [xcs_putf, xty_putf, xar_putf, xsz_putf, xsl_putf, xfl_putf, xcs_puta, xty_puta, xfl_puta, xsz_puta, xsl_puta, xar_puta, xcs_copy, xty_copy, xfl_copy, xsz_copy, xsl_copy, xar_copy, xcs_newo, xar_newo, xsz_newo, xsl_newo, xty_newo, xfl_newo, xcs_newa, xfl_newa, xsz_newa, xsl_newa, xty_newa, xar_newa, and_true, true_and, and_false, false_and, ite_true, ite_false, eq_self, and_self]) <;> (repeat (first | rw [if_pos (by omega)] | rw [if_neg (by omega)])) <;> (first | assumption | rfl | omega))))) (fun v g2 q => ?_)
      obtain ⟨rfl, q1, q2, q3, q4⟩ := q
      rw [xsl_newo] at q4
      have p2 : XFr (X1W a 20) (fun z => z = a + 48) g g2 := (i5.newo).sub q2 (by omega)
      rw [f1]
      refine Wp.vc 400 [175] rfl ?_
      refine ⟨isS ((p2.2.2.1 (a + 48) (by omega)).trans y48) i0 hk q1.2.1 rfl, ⟨by omega, by omega⟩, ih _ ⟨by omega, ?_, ?_, i3.step i1 (by omega) q2 q1, ?_⟩⟩
      · ((try simp only [xcs_putf, xty_putf, xar_putf, xsz_putf, xsl_putf, xfl_putf, xcs_puta, xty_puta, xfl_puta, xsz_puta, xsl_puta, xar_puta, xcs_copy, xty_copy, xfl_copy, xsz_copy, xsl_copy, xar_copy, xcs_newo, xar_newo, xsz_newo, xsl_newo, xty_newo, xfl_newo, xcs_newa, xfl_newa, xsz_newa, xsl_newa, xty_newa, xar_newa, and_true, true_and, and_false, false_and, ite_true, ite_false, eq_self, and_self]) <;> omega)
      · ((try simp only [xcs_putf, xty_putf, xar_putf, xsz_putf, xsl_putf, xfl_putf, xcs_puta, xty_puta, xfl_puta, xsz_puta, xsl_puta, xar_puta, xcs_copy, xty_copy, xfl_copy, xsz_copy, xsl_copy, xar_copy, xcs_newo, xar_newo, xsz_newo, xsl_newo, xty_newo, xfl_newo, xcs_newa, xfl_newa, xsz_newa, xsl_newa, xty_newa, xar_newa, and_true, true_and, and_false, false_and, ite_true, ite_false, eq_self, and_self]) <;> omega)
      · exact p2.puta (Or.inr rfl)
    · rintro h ⟨i0, i1, i2, i3, i5⟩
      refine Wp.vc 400 [175] rfl ?_
      refine ⟨fun _ => ⟨trivial, none, rfl, rfl, i5.mono (fun _ _ _ w => w) (fun _ _ w => Or.inr w), by omega, by omega, R.keep i5 (by omega) (fun w => by omega) (fun z f h1 h2 h3 w => by omega), i3⟩, fun c => absurd (show (3 : Int) ≤ 3 by decide) c⟩
  exact key 0 g (by decide) ⟨by decide, by omega, by omega, RmsL.nil, XFr.refl _⟩
theorem x1_loop1 {d : Nat} {g : XH} {a : Int} (y : xty g a = some (true, 0, none)) (s : xsz g = a + 50) (e17 : xfl g a 17 = a + 47) (y47 : xty g (a + 47) = some (true, 4, some 16)) (e18 : xfl g a 18 = a + 48) (y48 : xty g (a + 48) = some (true, 4, some 3)) : Wp (d + 5) 1 148 [some (.inr (.inr a)), some (.inl 0)] [] g (X1P a 20 380 (X1C20 a) g) := by
  have key : ∀ (k : Int) (h : XH), k ≤ 16 → (0 ≤ k ∧ xsz h = a + 50 + 4 * k ∧ xsl h = xsl g + 20 * k ∧ RmsL h (a + 47) (a + 50) k ∧ XFr (X1W a 20) (fun z => z = a + 47) g h) → Wp (d + 5) 1 148 [some (.inr (.inr a)), some (.inl k)] [] h (X1P a 20 380 (X1C20 a) g) := by
    refine loopUp (G := fun k h => Wp (d + 5) 1 148 [some (.inr (.inr a)), some (.inl k)] [] h (X1P a 20 380 (X1C20 a) g)) 16 ?_ ?_
    · rintro k h ⟨i0, i1, i2, i3, i5⟩ hk ih
      have f1 := (i5.2.2.2.1 a 17 (by omega) (fun w => by omega)).trans e17
      have y0 := (i5.2.2.1 a (by omega)).trans y
      have y1 := (i5.2.2.1 (a + 47) (by omega)).trans y47
      refine Wp.vc 400 [148, 175] rfl ?_
      refine ⟨fun c => absurd c (by omega), fun _ => ⟨isF y0 rfl, ?_⟩⟩
      refine Wp.callR (j := 0) rfl (Nat.le_of_ble_eq_true rfl) ⟨true, (by (first | assumption | ((try simp only [xcs_putf, xty_putf, xar_putf, xsz_putf, xsl_putf, xfl_putf, xcs_puta, xty_puta, xfl_puta, xsz_puta, xsl_puta, xar_puta, xcs_copy, xty_copy, xfl_copy, xsz_copy, xsl_copy, xar_copy, xcs_newo, xar_newo, xsz_newo, xsl_newo, xty_newo, xfl_newo, xcs_newa, xfl_newa, xsz_newa, xsl_newa, xty_newa, xar_newa, and_true, true_and, and_false, false_and, ite_true, ite_false, eq_self, and_self]) <;> (repeat (first | rw [if_pos (by omega)] | rw [if_neg (by omega)])) <;> (first | assumption | rfl | omega))))⟩ (x_Rooms_init (by (first | assumption | ((try simp only [xcs_putf, xty_putf, xar_putf, xsz_putf, xsl_putf, xfl_putf, xcs_puta, xty_puta, xfl_puta, xsz_puta, xsl_puta, xar_puta, xcs_copy, xty_copy, xfl_copy, xsz_copy, xsl_copy, xar_copy, xcs_newo, xar_newo, xsz_newo, xsl_newo, xty_newo, xfl_newo, xcs_newa, xfl_newa, xsz_newa, xsl_newa, xty_newa, xar_newa, and_true, true_and, and_false, false_and, ite_true, ite_false, eq_self, and_self]) <;> (repeat (first | rw [if_pos (by omega)] | rw [if_neg (by omega)])) <;> (first | assumption | rfl | omega)))) (by (first | assumption | ((try simp only [xcs_putf, xty_putf, xar_putf, xsz_putf, xsl_putf, xfl_putf, xcs_puta, xty_puta, xfl_puta, xsz_puta, xsl_puta, xar_puta, xcs_copy, xty_copy, xfl_copy, xsz_copy, xsl_copy, xar_copy, xcs_newo, xar_newo, xsz_newo, xsl_newo, xty_newo, xfl_newo, xcs_newa, xfl_newa, xsz_newa, xsl_newa, xty_newa, xar_newa, and_true, true_and, and_false, false_and, ite_true, ite_false, eq_self, and_self]) <;> (repeat (first | rw [if_pos (by omega)] | rw [if_neg (by omega)])) <;> (first | assumption | rfl | omega))))) (fun v g2 q => ?_)
      obtain ⟨rfl, q1, q2, q3, q4⟩ := q
      rw [xsl_newo] at q4
      have p2 : XFr (X1W a 20) (fun z => z = a + 47) g g2 := (i5.newo).sub q2 (by omega)
      rw [f1]
      refine Wp.vc 400 [148] rfl ?_
      refine ⟨isS ((p2.2.2.1 (a + 47) (by omega)).trans y47) i0 hk q1.2.1 rfl, ⟨by omega, by omega⟩, ih _ ⟨by omega, ?_, ?_, i3.step i1 (by omega) q2 q1, ?_⟩⟩
      · ((try simp only [xcs_putf, xty_putf, xar_putf, xsz_putf, xsl_putf, xfl_putf, xcs_puta, xty_puta, xfl_puta, xsz_puta, xsl_puta, xar_puta, xcs_copy, xty_copy, xfl_copy, xsz_copy, xsl_copy, xar_copy, xcs_newo, xar_newo, xsz_newo, xsl_newo, xty_newo, xfl_newo, xcs_newa, xfl_newa, xsz_newa, xsl_newa, xty_newa, xar_newa, and_true, true_and, and_false, false_and, ite_true, ite_false, eq_self, and_self]) <;> omega)
      · ((try simp only [xcs_putf, xty_putf, xar_putf, xsz_putf, xsl_putf, xfl_putf, xcs_puta, xty_puta, xfl_puta, xsz_puta, xsl_puta, xar_puta, xcs_copy, xty_copy, xfl_copy, xsz_copy, xsl_copy, xar_copy, xcs_newo, xar_newo, xsz_newo, xsl_newo, xty_newo, xfl_newo, xcs_newa, xfl_newa, xsz_newa, xsl_newa, xty_newa, xar_newa, and_true, true_and, and_false, false_and, ite_true, ite_false, eq_self, and_self]) <;> omega)
      · exact p2.puta (Or.inr rfl)
    · rintro h ⟨i0, i1, i2, i3, i5⟩
      refine Wp.vc 400 [148, 175] rfl ?_
      refine ⟨fun _ => ?_, fun c => absurd (show (16 : Int) ≤ 16 by decide) c⟩
      have f1 := (i5.2.2.2.1 a 18 (by omega) (fun w => by omega)).trans e18
      have y0 := (i5.2.2.1 a (by omega)).trans y
      have y1 := (i5.2.2.1 (a + 48) (by omega)).trans y48
      exact (x1_loop2 y0 (by omega) f1 y1 i3).imp (X1P.step (i5.mono (fun _ _ _ w => w) (fun _ _ w => Or.inl w)) (by omega) (Nat.le_refl _) (fun h' _ c => c))
  exact key 0 g (by decide) ⟨by decide, by omega, by omega, RmsL.nil, XFr.refl _⟩
def X1C19 (a : Int) (h : XH) : Prop := (xty h (a + 49) = some (true, 0, some 7) ∧ xfl h a 19 = a + 49) ∧ X1C20 a h
theorem x1_s19 {d : Nat} {g : XH} {a : Int} (y : xty g a = some (true, 0, none)) (s : xsz g = a + 49) (e17 : xfl g a 17 = a + 47) (y47 : xty g (a + 47) = some (true, 4, some 16)) (e18 : xfl g a 18 = a + 48) (y48 : xty g (a + 48) = some (true, 4, some 3)) : Wp (d + 5) 1 138 [some (.inr (.inr a)), none] [] g (X1P a 19 387 (X1C19 a) g) := by
  refine Wp.vc 6 [] rfl ?_
  refine ⟨⟨by decide, by decide⟩, isW (by (first | assumption | ((try simp only [xcs_putf, xty_putf, xar_putf, xsz_putf, xsl_putf, xfl_putf, xcs_puta, xty_puta, xfl_puta, xsz_puta, xsl_puta, xar_puta, xcs_copy, xty_copy, xfl_copy, xsz_copy, xsl_copy, xar_copy, xcs_newo, xar_newo, xsz_newo, xsl_newo, xty_newo, xfl_newo, xcs_newa, xfl_newa, xsz_newa, xsl_newa, xty_newa, xar_newa, and_true, true_and, and_false, false_and, ite_true, ite_false, eq_self, and_self]) <;> (repeat (first | rw [if_pos (by omega)] | rw [if_neg (by omega)])) <;> (first | assumption | rfl | omega)))) rfl, ?_⟩
  obtain ⟨k, hk⟩ : ∃ k, k = xputf (xnewa g 0 7) a 19 (xsz g) := ⟨_, rfl⟩
  rw [← hk]
  have p : XFr (X1W a 19) (X1A a) g k := by rw [hk]; exact ((XFr.refl g).newa).putf (Or.inr ⟨rfl, by decide, by decide⟩)
  have yk : xty k (a + 49) = some (true, 0, some 7) := by rw [hk]; (first | assumption | ((try simp only [xcs_putf, xty_putf, xar_putf, xsz_putf, xsl_putf, xfl_putf, xcs_puta, xty_puta, xfl_puta, xsz_puta, xsl_puta, xar_puta, xcs_copy, xty_copy, xfl_copy, xsz_copy, xsl_copy, xar_copy, xcs_newo, xar_newo, xsz_newo, xsl_newo, xty_newo, xfl_newo, xcs_newa, xfl_newa, xsz_newa, xsl_newa, xty_newa, xar_newa, and_true, true_and, and_false, false_and, ite_true, ite_false, eq_self, and_self]) <;> (repeat (first | rw [if_pos (by omega)] | rw [if_neg (by omega)])) <;> (first | assumption | rfl | omega)))
  have ek : xfl k a 19 = a + 49 := by rw [hk]; (first | assumption | ((try simp only [xcs_putf, xty_putf, xar_putf, xsz_putf, xsl_putf, xfl_putf, xcs_puta, xty_puta, xfl_puta, xsz_puta, xsl_puta, xar_puta, xcs_copy, xty_copy, xfl_copy, xsz_copy, xsl_copy, xar_copy, xcs_newo, xar_newo, xsz_newo, xsl_newo, xty_newo, xfl_newo, xcs_newa, xfl_newa, xsz_newa, xsl_newa, xty_newa, xar_newa, and_true, true_and, and_false, false_and, ite_true, ite_false, eq_self, and_self]) <;> (repeat (first | rw [if_pos (by omega)] | rw [if_neg (by omega)])) <;> (first | assumption | rfl | omega)))
  have sk : xsz k = a + 50 := by rw [hk]; ((try simp only [xcs_putf, xty_putf, xar_putf, xsz_putf, xsl_putf, xfl_putf, xcs_puta, xty_puta, xfl_puta, xsz_puta, xsl_puta, xar_puta, xcs_copy, xty_copy, xfl_copy, xsz_copy, xsl_copy, xar_copy, xcs_newo, xar_newo, xsz_newo, xsl_newo, xty_newo, xfl_newo, xcs_newa, xfl_newa, xsz_newa, xsl_newa, xty_newa, xar_newa, and_true, true_and, and_false, false_and, ite_true, ite_false, eq_self, and_self]) <;> omega)
  have lk : xsl k = xsl g + 7 := by rw [hk]; ((try simp only [xcs_putf, xty_putf, xar_putf, xsz_putf, xsl_putf, xfl_putf, xcs_puta, xty_puta, xfl_puta, xsz_puta, xsl_puta, xar_puta, xcs_copy, xty_copy, xfl_copy, xsz_copy, xsl_copy, xar_copy, xcs_newo, xar_newo, xsz_newo, xsl_newo, xty_newo, xfl_newo, xcs_newa, xfl_newa, xsz_newa, xsl_newa, xty_newa, xar_newa, and_true, true_and, and_false, false_and, ite_true, ite_false, eq_self, and_self]) <;> omega)
  have y0 := (p.2.2.1 a (by omega)).trans y
  have e17 := (p.2.2.2.1 a 17 (by omega) (fun w => by omega)).trans e17
  have y47 := (p.2.2.1 (a + 47) (by omega)).trans y47
  have e18 := (p.2.2.2.1 a 18 (by omega) (fun w => by omega)).trans e18
  have y48 := (p.2.2.1 (a + 48) (by omega)).trans y48
  clear hk
  exact (x1_loop1 y0 sk e17 y47 e18 y48).imp (X1P.step p (by omega) (by decide) (fun h' q c => ⟨⟨(q.2.2.1 _ (by omega)).trans yk, (q.2.2.2.1 a 19 (by omega) (fun w => by omega)).trans ek⟩, c⟩))
def X1C18 (a : Int) (h : XH) : Prop := (xty h (a + 48) = some (true, 4, some 3) ∧ xfl h a 18 = a + 48) ∧ X1C19 a h
theorem x1_s18 {d : Nat} {g : XH} {a : Int} (y : xty g a = some (true, 0, none)) (s : xsz g = a + 48) (e17 : xfl g a 17 = a + 47) (y47 : xty g (a + 47) = some (true, 4, some 16)) : Wp (d + 5) 1 130 [some (.inr (.inr a)), none] [] g (X1P a 18 390 (X1C18 a) g) := by
  refine Wp.vc 4 [] rfl ?_
  refine ⟨⟨by decide, by decide⟩, isW (by (first | assumption | ((try simp only [xcs_putf, xty_putf, xar_putf, xsz_putf, xsl_putf, xfl_putf, xcs_puta, xty_puta, xfl_puta, xsz_puta, xsl_puta, xar_puta, xcs_copy, xty_copy, xfl_copy, xsz_copy, xsl_copy, xar_copy, xcs_newo, xar_newo, xsz_newo, xsl_newo, xty_newo, xfl_newo, xcs_newa, xfl_newa, xsz_newa, xsl_newa, xty_newa, xar_newa, and_true, true_and, and_false, false_and, ite_true, ite_false, eq_self, and_self]) <;> (repeat (first | rw [if_pos (by omega)] | rw [if_neg (by omega)])) <;> (first | assumption | rfl | omega)))) rfl, ?_⟩
  obtain ⟨k, hk⟩ : ∃ k, k = xputf (xnewa g 4 3) a 18 (xsz g) := ⟨_, rfl⟩
  rw [← hk]
  have p : XFr (X1W a 18) (X1A a) g k := by rw [hk]; exact ((XFr.refl g).newa).putf (Or.inr ⟨rfl, by decide, by decide⟩)
  have yk : xty k (a + 48) = some (true, 4, some 3) := by rw [hk]; (first | assumption | ((try simp only [xcs_putf, xty_putf, xar_putf, xsz_putf, xsl_putf, xfl_putf, xcs_puta, xty_puta, xfl_puta, xsz_puta, xsl_puta, xar_puta, xcs_copy, xty_copy, xfl_copy, xsz_copy, xsl_copy, xar_copy, xcs_newo, xar_newo, xsz_newo, xsl_newo, xty_newo, xfl_newo, xcs_newa, xfl_newa, xsz_newa, xsl_newa, xty_newa, xar_newa, and_true, true_and, and_false, false_and, ite_true, ite_false, eq_self, and_self]) <;> (repeat (first | rw [if_pos (by omega)] | rw [if_neg (by omega)])) <;> (first | assumption | rfl | omega)))
  have ek : xfl k a 18 = a + 48 := by rw [hk]; (first | assumption | ((try simp only [xcs_putf, xty_putf, xar_putf, xsz_putf, xsl_putf, xfl_putf, xcs_puta, xty_puta, xfl_puta, xsz_puta, xsl_puta, xar_puta, xcs_copy, xty_copy, xfl_copy, xsz_copy, xsl_copy, xar_copy, xcs_newo, xar_newo, xsz_newo, xsl_newo, xty_newo, xfl_newo, xcs_newa, xfl_newa, xsz_newa, xsl_newa, xty_newa, xar_newa, and_true, true_and, and_false, false_and, ite_true, ite_false, eq_self, and_self]) <;> (repeat (first | rw [if_pos (by omega)] | rw [if_neg (by omega)])) <;> (first | assumption | rfl | omega)))
  have sk : xsz k = a + 49 := by rw [hk]; ((try simp only [xcs_putf, xty_putf, xar_putf, xsz_putf, xsl_putf, xfl_putf, xcs_puta, xty_puta, xfl_puta, xsz_puta, xsl_puta, xar_puta, xcs_copy, xty_copy, xfl_copy, xsz_copy, xsl_copy, xar_copy, xcs_newo, xar_newo, xsz_newo, xsl_newo, xty_newo, xfl_newo, xcs_newa, xfl_newa, xsz_newa, xsl_newa, xty_newa, xar_newa, and_true, true_and, and_false, false_and, ite_true, ite_false, eq_self, and_self]) <;> omega)
  have lk : xsl k = xsl g + 3 := by rw [hk]; ((try simp only [xcs_putf, xty_putf, xar_putf, xsz_putf, xsl_putf, xfl_putf, xcs_puta, xty_puta, xfl_puta, xsz_puta, xsl_puta, xar_puta, xcs_copy, xty_copy, xfl_copy, xsz_copy, xsl_copy, xar_copy, xcs_newo, xar_newo, xsz_newo, xsl_newo, xty_newo, xfl_newo, xcs_newa, xfl_newa, xsz_newa, xsl_newa, xty_newa, xar_newa, and_true, true_and, and_false, false_and, ite_true, ite_false, eq_self, and_self]) <;> omega)
  have y0 := (p.2.2.1 a (by omega)).trans y
  have e17 := (p.2.2.2.1 a 17 (by omega) (fun w => by omega)).trans e17
  have y47 := (p.2.2.1 (a + 47) (by omega)).trans y47
  clear hk
  exact (x1_s19 y0 sk e17 y47 ek yk).imp (X1P.step p (by omega) (by decide) (fun h' q c => ⟨⟨(q.2.2.1 _ (by omega)).trans yk, (q.2.2.2.1 a 18 (by omega) (fun w => by omega)).trans ek⟩, c⟩))
def X1C17 (a : Int) (h : XH) : Prop := (xty h (a + 47) = some (true, 4, some 16) ∧ xfl h a 17 = a + 47) ∧ X1C18 a h
theorem x1_s17 {d : Nat} {g : XH} {a : Int} (y : xty g a = some (true, 0, none)) (s : xsz g = a + 47) : Wp (d + 5) 1 121 [some (.inr (.inr a)), none] [] g (X1P a 17 406 (X1C17 a) g) := by
  refine Wp.vc 4 [] rfl ?_
  refine ⟨⟨by decide, by decide⟩, isW (by (first | assumption | ((try simp only [xcs_putf, xty_putf, xar_putf, xsz_putf, xsl_putf, xfl_putf, xcs_puta, xty_puta, xfl_puta, xsz_puta, xsl_puta, xar_puta, xcs_copy, xty_copy, xfl_copy, xsz_copy, xsl_copy, xar_copy, xcs_newo, xar_newo, xsz_newo, xsl_newo, xty_newo, xfl_newo, xcs_newa, xfl_newa, xsz_newa, xsl_newa, xty_newa, xar_newa, and_true, true_and, and_false, false_and, ite_true, ite_false, eq_self, and_self]) <;> (repeat (first | rw [if_pos (by omega)] | rw [if_neg (by omega)])) <;> (first | assumption | rfl | omega)))) rfl, ?_⟩
  obtain ⟨k, hk⟩ : ∃ k, k = xputf (xnewa g 4 16) a 17 (xsz g) := ⟨_, rfl⟩
  rw [← hk]
  have p : XFr (X1W a 17) (X1A a) g k := by rw [hk]; exact ((XFr.refl g).newa).putf (Or.inr ⟨rfl, by decide, by decide⟩)
  have yk : xty k (a + 47) = some (true, 4, some 16) := by rw [hk]; (first | assumption | ((try simp only [xcs_putf, xty_putf, xar_putf, xsz_putf, xsl_putf, xfl_putf, xcs_puta, xty_puta, xfl_puta, xsz_puta, xsl_puta, xar_puta, xcs_copy, xty_copy, xfl_copy, xsz_copy, xsl_copy, xar_copy, xcs_newo, xar_newo, xsz_newo, xsl_newo, xty_newo, xfl_newo, xcs_newa, xfl_newa, xsz_newa, xsl_newa, xty_newa, xar_newa, and_true, true_and, and_false, false_and, ite_true, ite_false, eq_self, and_self]) <;> (repeat (first | rw [if_pos (by omega)] | rw [if_neg (by omega)])) <;> (first | assumption | rfl | omega)))
  have ek : xfl k a 17 = a + 47 := by rw [hk]; (first | assumption | ((try simp only [xcs_putf, xty_putf, xar_putf, xsz_putf, xsl_putf, xfl_putf, xcs_puta, xty_puta, xfl_puta, xsz_puta, xsl_puta, xar_puta, xcs_copy, xty_copy, xfl_copy, xsz_copy, xsl_copy, xar_copy, xcs_newo, xar_newo, xsz_newo, xsl_newo, xty_newo, xfl_newo, xcs_newa, xfl_newa, xsz_newa, xsl_newa, xty_newa, xar_newa, and_true, true_and, and_false, false_and, ite_true, ite_false, eq_self, and_self]) <;> (repeat (first | rw [if_pos (by omega)] | rw [if_neg (by omega)])) <;> (first | assumption | rfl | omega)))
  have sk : xsz k = a + 48 := by rw [hk]; ((try simp only [xcs_putf, xty_putf, xar_putf, xsz_putf, xsl_putf, xfl_putf, xcs_puta, xty_puta, xfl_puta, xsz_puta, xsl_puta, xar_puta, xcs_copy, xty_copy, xfl_copy, xsz_copy, xsl_copy, xar_copy, xcs_newo, xar_newo, xsz_newo, xsl_newo, xty_newo, xfl_newo, xcs_newa, xfl_newa, xsz_newa, xsl_newa, xty_newa, xar_newa, and_true, true_and, and_false, false_and, ite_true, ite_false, eq_self, and_self]) <;> omega)
  have lk : xsl k = xsl g + 16 := by rw [hk]; ((try simp only [xcs_putf, xty_putf, xar_putf, xsz_putf, xsl_putf, xfl_putf, xcs_puta, xty_puta, xfl_puta, xsz_puta, xsl_puta, xar_puta, xcs_copy, xty_copy, xfl_copy, xsz_copy, xsl_copy, xar_copy, xcs_newo, xar_newo, xsz_newo, xsl_newo, xty_newo, xfl_newo, xcs_newa, xfl_newa, xsz_newa, xsl_newa, xty_newa, xar_newa, and_true, true_and, and_false, false_and, ite_true, ite_false, eq_self, and_self]) <;> omega)
  have y0 := (p.2.2.1 a (by omega)).trans y
  clear hk
  exact (x1_s18 y0 sk ek yk).imp (X1P.step p (by omega) (by decide) (fun h' q c => ⟨⟨(q.2.2.1 _ (by omega)).trans yk, (q.2.2.2.1 a 17 (by omega) (fun w => by omega)).trans ek⟩, c⟩))
def X1C16 (a : Int) (h : XH) : Prop := (xfl h a 16 = a + 27 ∧ ExL h (a + 27)) ∧ X1C17 a h
theorem x1_s16 {d : Nat} {g : XH} {a : Int} (y : xty g a = some (true, 0, none)) (s : xsz g = a + 27) : Wp (d + 5) 1 110 [some (.inr (.inr a)), none] [] g (X1P a 16 502 (X1C16 a) g) := by
  refine Wp.vc 3 [] rfl ?_
  refine Wp.callR (j := 0) rfl (Nat.le_of_ble_eq_true rfl) ⟨true, (by (first | assumption | ((try simp only [xcs_putf, xty_putf, xar_putf, xsz_putf, xsl_putf, xfl_putf, xcs_puta, xty_puta, xfl_puta, xsz_puta, xsl_puta, xar_puta, xcs_copy, xty_copy, xfl_copy, xsz_copy, xsl_copy, xar_copy, xcs_newo, xar_newo, xsz_newo, xsl_newo, xty_newo, xfl_newo, xcs_newa, xfl_newa, xsz_newa, xsl_newa, xty_newa, xar_newa, and_true, true_and, and_false, false_and, ite_true, ite_false, eq_self, and_self]) <;> (repeat (first | rw [if_pos (by omega)] | rw [if_neg (by omega)])) <;> (first | assumption | rfl | omega))))⟩ (x_Exchanges_init (by (first | assumption | ((try simp only [xcs_putf, xty_putf, xar_putf, xsz_putf, xsl_putf, xfl_putf, xcs_puta, xty_puta, xfl_puta, xsz_puta, xsl_puta, xar_puta, xcs_copy, xty_copy, xfl_copy, xsz_copy, xsl_copy, xar_copy, xcs_newo, xar_newo, xsz_newo, xsl_newo, xty_newo, xfl_newo, xcs_newa, xfl_newa, xsz_newa, xsl_newa, xty_newa, xar_newa, and_true, true_and, and_false, false_and, ite_true, ite_false, eq_self, and_self]) <;> (repeat (first | rw [if_pos (by omega)] | rw [if_neg (by omega)])) <;> (first | assumption | rfl | omega)))) (by (first | assumption | ((try simp only [xcs_putf, xty_putf, xar_putf, xsz_putf, xsl_putf, xfl_putf, xcs_puta, xty_puta, xfl_puta, xsz_puta, xsl_puta, xar_puta, xcs_copy, xty_copy, xfl_copy, xsz_copy, xsl_copy, xar_copy, xcs_newo, xar_newo, xsz_newo, xsl_newo, xty_newo, xfl_newo, xcs_newa, xfl_newa, xsz_newa, xsl_newa, xty_newa, xar_newa, and_true, true_and, and_false, false_and, ite_true, ite_false, eq_self, and_self]) <;> (repeat (first | rw [if_pos (by omega)] | rw [if_neg (by omega)])) <;> (first | assumption | rfl | omega))))) (fun v g2 q => ?_)
  obtain ⟨rfl, q2, q3, q4, q1⟩ := q
  rw [xsl_newo] at q4
  have q2 : XFr (X1W a 16) (X1A a) g g2 := ((XFr.refl g).newo).sub q2 (Int.le_refl _)
  have s2 : xsz g2 = a + 47 := by first | (rw [xsz_newo] at q3; omega) | omega
  have l2 : xsl g2 = xsl g + 96 := by omega
  have LL : ExL g2 (a + 27) := by rw [← s]; exact q1
  have y2 := (q2.2.2.1 a (by omega)).trans y
  rw [s]
  refine Wp.vc 1 [] rfl ⟨isW y2 rfl, ?_⟩
  obtain ⟨k, hk⟩ : ∃ k, k = xputf g2 a 16 (a + 27) := ⟨_, rfl⟩
  rw [← hk]
  have p2 : XFr (X1W a 16) (X1A a) g2 k := by rw [hk]; exact (XFr.refl g2).putf (Or.inr ⟨rfl, by decide, by decide⟩)
  have ek : xfl k a 16 = a + 27 := by rw [hk]; (first | assumption | ((try simp only [xcs_putf, xty_putf, xar_putf, xsz_putf, xsl_putf, xfl_putf, xcs_puta, xty_puta, xfl_puta, xsz_puta, xsl_puta, xar_puta, xcs_copy, xty_copy, xfl_copy, xsz_copy, xsl_copy, xar_copy, xcs_newo, xar_newo, xsz_newo, xsl_newo, xty_newo, xfl_newo, xcs_newa, xfl_newa, xsz_newa, xsl_newa, xty_newa, xar_newa, and_true, true_and, and_false, false_and, ite_true, ite_false, eq_self, and_self]) <;> (repeat (first | rw [if_pos (by omega)] | rw [if_neg (by omega)])) <;> (first | assumption | rfl | omega)))
  have sk : xsz k = a + 47 := by rw [hk]; exact s2
  have lk : xsl k = xsl g + 96 := by rw [hk]; exact l2
  have LK : ExL k (a + 27) := LL.keep p2 (by omega) (fun z f h1 h2 h3 w => by omega) (fun w => by omega)
  have p := q2.trans p2 (fun _ _ _ w => w) (fun _ _ w => w)
  have y0 := (p.2.2.1 a (by omega)).trans y
  clear hk
  exact (x1_s17 y0 sk).imp (X1P.step p (by omega) (by decide) (fun h' q c => ⟨⟨(q.2.2.2.1 a 16 (by omega) (fun w => by omega)).trans ek, LK.keep q (by omega) (fun z f h1 h2 h3 w => by omega) (fun w => by omega)⟩, c⟩))
def X1C15 (a : Int) (h : XH) : Prop := (xfl h a 15 = a + 22 ∧ RowsL h (a + 22)) ∧ X1C16 a h
theorem x1_s15 {d : Nat} {g : XH} {a : Int} (y : xty g a = some (true, 0, none)) (s : xsz g = a + 22) : Wp (d + 5) 1 99 [some (.inr (.inr a)), none] [] g (X1P a 15 579 (X1C15 a) g) := by
  refine Wp.vc 3 [] rfl ?_
  refine Wp.callR (j := 0) rfl (Nat.le_of_ble_eq_true rfl) ⟨true, (by (first | assumption | ((try simp only [xcs_putf, xty_putf, xar_putf, xsz_putf, xsl_putf, xfl_putf, xcs_puta, xty_puta, xfl_puta, xsz_puta, xsl_puta, xar_puta, xcs_copy, xty_copy, xfl_copy, xsz_copy, xsl_copy, xar_copy, xcs_newo, xar_newo, xsz_newo, xsl_newo, xty_newo, xfl_newo, xcs_newa, xfl_newa, xsz_newa, xsl_newa, xty_newa, xar_newa, and_true, true_and, and_false, false_and, ite_true, ite_false, eq_self, and_self]) <;> (repeat (first | rw [if_pos (by omega)] | rw [if_neg (by omega)])) <;> (first | assumption | rfl | omega))))⟩ (x_Rows_init (by (first | assumption | ((try simp only [xcs_putf, xty_putf, xar_putf, xsz_putf, xsl_putf, xfl_putf, xcs_puta, xty_puta, xfl_puta, xsz_puta, xsl_puta, xar_puta, xcs_copy, xty_copy, xfl_copy, xsz_copy, xsl_copy, xar_copy, xcs_newo, xar_newo, xsz_newo, xsl_newo, xty_newo, xfl_newo, xcs_newa, xfl_newa, xsz_newa, xsl_newa, xty_newa, xar_newa, and_true, true_and, and_false, false_and, ite_true, ite_false, eq_self, and_self]) <;> (repeat (first | rw [if_pos (by omega)] | rw [if_neg (by omega)])) <;> (first | assumption | rfl | omega)))) (by (first | assumption | ((try simp only [xcs_putf, xty_putf, xar_putf, xsz_putf, xsl_putf, xfl_putf, xcs_puta, xty_puta, xfl_puta, xsz_puta, xsl_puta, xar_puta, xcs_copy, xty_copy, xfl_copy, xsz_copy, xsl_copy, xar_copy, xcs_newo, xar_newo, xsz_newo, xsl_newo, xty_newo, xfl_newo, xcs_newa, xfl_newa, xsz_newa, xsl_newa, xty_newa, xar_newa, and_true, true_and, and_false, false_and, ite_true, ite_false, eq_self, and_self]) <;> (repeat (first | rw [if_pos (by omega)] | rw [if_neg (by omega)])) <;> (first | assumption | rfl | omega))))) (fun v g2 q => ?_)
  obtain ⟨rfl, q2, q3, q4, q1⟩ := q
  rw [xsl_newo] at q4
  have q2 : XFr (X1W a 15) (X1A a) g g2 := ((XFr.refl g).newo).sub q2 (Int.le_refl _)
  have s2 : xsz g2 = a + 27 := by first | (rw [xsz_newo] at q3; omega) | omega
  have l2 : xsl g2 = xsl g + 77 := by omega
  have LL : RowsL g2 (a + 22) := by rw [← s]; exact q1
  have y2 := (q2.2.2.1 a (by omega)).trans y
  rw [s]
  refine Wp.vc 1 [] rfl ⟨isW y2 rfl, ?_⟩
  obtain ⟨k, hk⟩ : ∃ k, k = xputf g2 a 15 (a + 22) := ⟨_, rfl⟩
  rw [← hk]
  have p2 : XFr (X1W a 15) (X1A a) g2 k := by rw [hk]; exact (XFr.refl g2).putf (Or.inr ⟨rfl, by decide, by decide⟩)
  have ek : xfl k a 15 = a + 22 := by rw [hk]; (first | assumption | ((try simp only [xcs_putf, xty_putf, xar_putf, xsz_putf, xsl_putf, xfl_putf, xcs_puta, xty_puta, xfl_puta, xsz_puta, xsl_puta, xar_puta, xcs_copy, xty_copy, xfl_copy, xsz_copy, xsl_copy, xar_copy, xcs_newo, xar_newo, xsz_newo, xsl_newo, xty_newo, xfl_newo, xcs_newa, xfl_newa, xsz_newa, xsl_newa, xty_newa, xar_newa, and_true, true_and, and_false, false_and, ite_true, ite_false, eq_self, and_self]) <;> (repeat (first | rw [if_pos (by omega)] | rw [if_neg (by omega)])) <;> (first | assumption | rfl | omega)))
  have sk : xsz k = a + 27 := by rw [hk]; exact s2
  have lk : xsl k = xsl g + 77 := by rw [hk]; exact l2
  have LK : RowsL k (a + 22) := LL.keep p2 (by omega) (fun f hf w => by omega)
  have p := q2.trans p2 (fun _ _ _ w => w) (fun _ _ w => w)
  have y0 := (p.2.2.1 a (by omega)).trans y
  clear hk
  exact (x1_s16 y0 sk).imp (X1P.step p (by omega) (by decide) (fun h' q c => ⟨⟨(q.2.2.2.1 a 15 (by omega) (fun w => by omega)).trans ek, LK.keep q (by omega) (fun f hf w => by omega)⟩, c⟩))
def X1C14 (a : Int) (h : XH) : Prop := (xfl h a 14 = a + 21 ∧ xty h (a + 21) = some (true, 6, none)) ∧ X1C15 a h
theorem x1_s14 {d : Nat} {g : XH} {a : Int} (y : xty g a = some (true, 0, none)) (s : xsz g = a + 21) : Wp (d + 5) 1 88 [some (.inr (.inr a)), none] [] g (X1P a 14 579 (X1C14 a) g) := by
  refine Wp.vc 3 [] rfl ?_
  refine Wp.callE (j := 0) rfl (Nat.le_of_ble_eq_true rfl) ⟨true, (by (first | assumption | ((try simp only [xcs_putf, xty_putf, xar_putf, xsz_putf, xsl_putf, xfl_putf, xcs_puta, xty_puta, xfl_puta, xsz_puta, xsl_puta, xar_puta, xcs_copy, xty_copy, xfl_copy, xsz_copy, xsl_copy, xar_copy, xcs_newo, xar_newo, xsz_newo, xsl_newo, xty_newo, xfl_newo, xcs_newa, xfl_newa, xsz_newa, xsl_newa, xty_newa, xar_newa, and_true, true_and, and_false, false_and, ite_true, ite_false, eq_self, and_self]) <;> (repeat (first | rw [if_pos (by omega)] | rw [if_neg (by omega)])) <;> (first | assumption | rfl | omega))))⟩ (x_ByAll_init (by (first | assumption | ((try simp only [xcs_putf, xty_putf, xar_putf, xsz_putf, xsl_putf, xfl_putf, xcs_puta, xty_puta, xfl_puta, xsz_puta, xsl_puta, xar_puta, xcs_copy, xty_copy, xfl_copy, xsz_copy, xsl_copy, xar_copy, xcs_newo, xar_newo, xsz_newo, xsl_newo, xty_newo, xfl_newo, xcs_newa, xfl_newa, xsz_newa, xsl_newa, xty_newa, xar_newa, and_true, true_and, and_false, false_and, ite_true, ite_false, eq_self, and_self]) <;> (repeat (first | rw [if_pos (by omega)] | rw [if_neg (by omega)])) <;> (first | assumption | rfl | omega))))) ?_
  obtain ⟨g2, hg2⟩ : ∃ g2, g2 = xnewo g 6 0 := ⟨_, rfl⟩
  rw [← hg2]
  have q2 : XFr (X1W a 14) (X1A a) g g2 := by rw [hg2]; exact (XFr.refl g).newo
  have s2 : xsz g2 = a + 22 := by rw [hg2]; ((try simp only [xcs_putf, xty_putf, xar_putf, xsz_putf, xsl_putf, xfl_putf, xcs_puta, xty_puta, xfl_puta, xsz_puta, xsl_puta, xar_puta, xcs_copy, xty_copy, xfl_copy, xsz_copy, xsl_copy, xar_copy, xcs_newo, xar_newo, xsz_newo, xsl_newo, xty_newo, xfl_newo, xcs_newa, xfl_newa, xsz_newa, xsl_newa, xty_newa, xar_newa, and_true, true_and, and_false, false_and, ite_true, ite_false, eq_self, and_self]) <;> omega)
  have l2 : xsl g2 = xsl g + 0 := by rw [hg2]; ((try simp only [xcs_putf, xty_putf, xar_putf, xsz_putf, xsl_putf, xfl_putf, xcs_puta, xty_puta, xfl_puta, xsz_puta, xsl_puta, xar_puta, xcs_copy, xty_copy, xfl_copy, xsz_copy, xsl_copy, xar_copy, xcs_newo, xar_newo, xsz_newo, xsl_newo, xty_newo, xfl_newo, xcs_newa, xfl_newa, xsz_newa, xsl_newa, xty_newa, xar_newa, and_true, true_and, and_false, false_and, ite_true, ite_false, eq_self, and_self]) <;> omega)
  have LL : xty g2 (a + 21) = some (true, 6, none) := by rw [hg2]; (first | assumption | ((try simp only [xcs_putf, xty_putf, xar_putf, xsz_putf, xsl_putf, xfl_putf, xcs_puta, xty_puta, xfl_puta, xsz_puta, xsl_puta, xar_puta, xcs_copy, xty_copy, xfl_copy, xsz_copy, xsl_copy, xar_copy, xcs_newo, xar_newo, xsz_newo, xsl_newo, xty_newo, xfl_newo, xcs_newa, xfl_newa, xsz_newa, xsl_newa, xty_newa, xar_newa, and_true, true_and, and_false, false_and, ite_true, ite_false, eq_self, and_self]) <;> (repeat (first | rw [if_pos (by omega)] | rw [if_neg (by omega)])) <;> (first | assumption | rfl | omega)))
  clear hg2
  have y2 := (q2.2.2.1 a (by omega)).trans y
  rw [s]
  refine Wp.vc 1 [] rfl ⟨isW y2 rfl, ?_⟩
  obtain ⟨k, hk⟩ : ∃ k, k = xputf g2 a 14 (a + 21) := ⟨_, rfl⟩
  rw [← hk]
  have p2 : XFr (X1W a 14) (X1A a) g2 k := by rw [hk]; exact (XFr.refl g2).putf (Or.inr ⟨rfl, by decide, by decide⟩)
  have ek : xfl k a 14 = a + 21 := by rw [hk]; (first | assumption | ((try simp only [xcs_putf, xty_putf, xar_putf, xsz_putf, xsl_putf, xfl_putf, xcs_puta, xty_puta, xfl_puta, xsz_puta, xsl_puta, xar_puta, xcs_copy, xty_copy, xfl_copy, xsz_copy, xsl_copy, xar_copy, xcs_newo, xar_newo, xsz_newo, xsl_newo, xty_newo, xfl_newo, xcs_newa, xfl_newa, xsz_newa, xsl_newa, xty_newa, xar_newa, and_true, true_and, and_false, false_and, ite_true, ite_false, eq_self, and_self]) <;> (repeat (first | rw [if_pos (by omega)] | rw [if_neg (by omega)])) <;> (first | assumption | rfl | omega)))
  have sk : xsz k = a + 22 := by rw [hk]; exact s2
  have lk : xsl k = xsl g + 0 := by rw [hk]; exact l2
  have LK : xty k (a + 21) = some (true, 6, none) := (p2.2.2.1 _ (by omega)).trans LL
  have p := q2.trans p2 (fun _ _ _ w => w) (fun _ _ w => w)
  have y0 := (p.2.2.1 a (by omega)).trans y
  clear hk
  exact (x1_s15 y0 sk).imp (X1P.step p (by omega) (by decide) (fun h' q c => ⟨⟨(q.2.2.2.1 a 14 (by omega) (fun w => by omega)).trans ek, (q.2.2.1 _ (by omega)).trans LK⟩, c⟩))
def X1C13 (a : Int) (h : XH) : Prop := (xfl h a 13 = a + 20 ∧ xty h (a + 20) = some (true, 5, none)) ∧ X1C14 a h
theorem x1_s13 {d : Nat} {g : XH} {a : Int} (y : xty g a = some (true, 0, none)) (s : xsz g = a + 20) : Wp (d + 5) 1 77 [some (.inr (.inr a)), none] [] g (X1P a 13 579 (X1C13 a) g) := by
  refine Wp.vc 3 [] rfl ?_
  refine Wp.callE (j := 0) rfl (Nat.le_of_ble_eq_true rfl) ⟨true, (by (first | assumption | ((try simp only [xcs_putf, xty_putf, xar_putf, xsz_putf, xsl_putf, xfl_putf, xcs_puta, xty_puta, xfl_puta, xsz_puta, xsl_puta, xar_puta, xcs_copy, xty_copy, xfl_copy, xsz_copy, xsl_copy, xar_copy, xcs_newo, xar_newo, xsz_newo, xsl_newo, xty_newo, xfl_newo, xcs_newa, xfl_newa, xsz_newa, xsl_newa, xty_newa, xar_newa, and_true, true_and, and_false, false_and, ite_true, ite_false, eq_self, and_self]) <;> (repeat (first | rw [if_pos (by omega)] | rw [if_neg (by omega)])) <;> (first | assumption | rfl | omega))))⟩ (x_ByStreets_init (by (first | assumption | ((try simp only [xcs_putf, xty_putf, xar_putf, xsz_putf, xsl_putf, xfl_putf, xcs_puta, xty_puta, xfl_puta, xsz_puta, xsl_puta, xar_puta, xcs_copy, xty_copy, xfl_copy, xsz_copy, xsl_copy, xar_copy, xcs_newo, xar_newo, xsz_newo, xsl_newo, xty_newo, xfl_newo, xcs_newa, xfl_newa, xsz_newa, xsl_newa, xty_newa, xar_newa, and_true, true_and, and_false, false_and, ite_true, ite_false, eq_self, and_self]) <;> (repeat (first | rw [if_pos (by omega)] | rw [if_neg (by omega)])) <;> (first | assumption | rfl | omega)))) (Or.inl rfl)) ?_
  obtain ⟨g2, hg2⟩ : ∃ g2, g2 = xnewo g 5 0 := ⟨_, rfl⟩
  rw [← hg2]
  have q2 : XFr (X1W a 13) (X1A a) g g2 := by rw [hg2]; exact (XFr.refl g).newo
  have s2 : xsz g2 = a + 21 := by rw [hg2]; ((try simp only [xcs_putf, xty_putf, xar_putf, xsz_putf, xsl_putf, xfl_putf, xcs_puta, xty_puta, xfl_puta, xsz_puta, xsl_puta, xar_puta, xcs_copy, xty_copy, xfl_copy, xsz_copy, xsl_copy, xar_copy, xcs_newo, xar_newo, xsz_newo, xsl_newo, xty_newo, xfl_newo, xcs_newa, xfl_newa, xsz_newa, xsl_newa, xty_newa, xar_newa, and_true, true_and, and_false, false_and, ite_true, ite_false, eq_self, and_self]) <;> omega)
  have l2 : xsl g2 = xsl g + 0 := by rw [hg2]; ((try simp only [xcs_putf, xty_putf, xar_putf, xsz_putf, xsl_putf, xfl_putf, xcs_puta, xty_puta, xfl_puta, xsz_puta, xsl_puta, xar_puta, xcs_copy, xty_copy, xfl_copy, xsz_copy, xsl_copy, xar_copy, xcs_newo, xar_newo, xsz_newo, xsl_newo, xty_newo, xfl_newo, xcs_newa, xfl_newa, xsz_newa, xsl_newa, xty_newa, xar_newa, and_true, true_and, and_false, false_and, ite_true, ite_false, eq_self, and_self]) <;> omega)
  have LL : xty g2 (a + 20) = some (true, 5, none) := by rw [hg2]; (first | assumption | ((try simp only [xcs_putf, xty_putf, xar_putf, xsz_putf, xsl_putf, xfl_putf, xcs_puta, xty_puta, xfl_puta, xsz_puta, xsl_puta, xar_puta, xcs_copy, xty_copy, xfl_copy, xsz_copy, xsl_copy, xar_copy, xcs_newo, xar_newo, xsz_newo, xsl_newo, xty_newo, xfl_newo, xcs_newa, xfl_newa, xsz_newa, xsl_newa, xty_newa, xar_newa, and_true, true_and, and_false, false_and, ite_true, ite_false, eq_self, and_self]) <;> (repeat (first | rw [if_pos (by omega)] | rw [if_neg (by omega)])) <;> (first | assumption | rfl | omega)))
  clear hg2
  have y2 := (q2.2.2.1 a (by omega)).trans y
  rw [s]
  refine Wp.vc 1 [] rfl ⟨isW y2 rfl, ?_⟩
  obtain ⟨k, hk⟩ : ∃ k, k = xputf g2 a 13 (a + 20) := ⟨_, rfl⟩
  rw [← hk]
  have p2 : XFr (X1W a 13) (X1A a) g2 k := by rw [hk]; exact (XFr.refl g2).putf (Or.inr ⟨rfl, by decide, by decide⟩)
  have ek : xfl k a 13 = a + 20 := by rw [hk]; (first | assumption | ((try simp only [xcs_putf, xty_putf, xar_putf, xsz_putf, xsl_putf, xfl_putf, xcs_puta, xty_puta, xfl_puta, xsz_puta, xsl_puta, xar_puta, xcs_copy, xty_copy, xfl_copy, xsz_copy, xsl_copy, xar_copy, xcs_newo, xar_newo, xsz_newo, xsl_newo, xty_newo, xfl_newo, xcs_newa, xfl_newa, xsz_newa, xsl_newa, xty_newa, xar_newa, and_true, true_and, and_false, false_and, ite_true, ite_false, eq_self, and_self]) <;> (repeat (first | rw [if_pos (by omega)] | rw [if_neg (by omega)])) <;> (first | assumption | rfl | omega)))
  have sk : xsz k = a + 21 := by rw [hk]; exact s2
  have lk : xsl k = xsl g + 0 := by rw [hk]; exact l2
  have LK : xty k (a + 20) = some (true, 5, none) := (p2.2.2.1 _ (by omega)).trans LL
  have p := q2.trans p2 (fun _ _ _ w => w) (fun _ _ w => w)
  have y0 := (p.2.2.1 a (by omega)).trans y
  clear hk
  exact (x1_s14 y0 sk).imp (X1P.step p (by omega) (by decide) (fun h' q c => ⟨⟨(q.2.2.2.1 a 13 (by omega) (fun w => by omega)).trans ek, (q.2.2.1 _ (by omega)).trans LK⟩, c⟩))
def X1C12 (a : Int) (h : XH) : Prop := (xfl h a 12 = a + 17 ∧ WaysL h (a + 17)) ∧ X1C13 a h
theorem x1_s12 {d : Nat} {g : XH} {a : Int} (y : xty g a = some (true, 0, none)) (s : xsz g = a + 17) : Wp (d + 5) 1 66 [some (.inr (.inr a)), none] [] g (X1P a 12 601 (X1C12 a) g) := by
  refine Wp.vc 3 [] rfl ?_
  refine Wp.callR (j := 0) rfl (Nat.le_of_ble_eq_true rfl) ⟨true, (by (first | assumption | ((try simp only [xcs_putf, xty_putf, xar_putf, xsz_putf, xsl_putf, xfl_putf, xcs_puta, xty_puta, xfl_puta, xsz_puta, xsl_puta, xar_puta, xcs_copy, xty_copy, xfl_copy, xsz_copy, xsl_copy, xar_copy, xcs_newo, xar_newo, xsz_newo, xsl_newo, xty_newo, xfl_newo, xcs_newa, xfl_newa, xsz_newa, xsl_newa, xty_newa, xar_newa, and_true, true_and, and_false, false_and, ite_true, ite_false, eq_self, and_self]) <;> (repeat (first | rw [if_pos (by omega)] | rw [if_neg (by omega)])) <;> (first | assumption | rfl | omega))))⟩ (x_Ways_init (by (first | assumption | ((try simp only [xcs_putf, xty_putf, xar_putf, xsz_putf, xsl_putf, xfl_putf, xcs_puta, xty_puta, xfl_puta, xsz_puta, xsl_puta, xar_puta, xcs_copy, xty_copy, xfl_copy, xsz_copy, xsl_copy, xar_copy, xcs_newo, xar_newo, xsz_newo, xsl_newo, xty_newo, xfl_newo, xcs_newa, xfl_newa, xsz_newa, xsl_newa, xty_newa, xar_newa, and_true, true_and, and_false, false_and, ite_true, ite_false, eq_self, and_self]) <;> (repeat (first | rw [if_pos (by omega)] | rw [if_neg (by omega)])) <;> (first | assumption | rfl | omega)))) (by (first | assumption | ((try simp only [xcs_putf, xty_putf, xar_putf, xsz_putf, xsl_putf, xfl_putf, xcs_puta, xty_puta, xfl_puta, xsz_puta, xsl_puta, xar_puta, xcs_copy, xty_copy, xfl_copy, xsz_copy, xsl_copy, xar_copy, xcs_newo, xar_newo, xsz_newo, xsl_newo, xty_newo, xfl_newo, xcs_newa, xfl_newa, xsz_newa, xsl_newa, xty_newa, xar_newa, and_true, true_and, and_false, false_and, ite_true, ite_false, eq_self, and_self]) <;> (repeat (first | rw [if_pos (by omega)] | rw [if_neg (by omega)])) <;> (first | assumption | rfl | omega))))) (fun v g2 q => ?_)
  obtain ⟨rfl, q2, q3, q4, q1⟩ := q
  rw [xsl_newo] at q4
  have q2 : XFr (X1W a 12) (X1A a) g g2 := ((XFr.refl g).newo).sub q2 (Int.le_refl _)
  have s2 : xsz g2 = a + 20 := by first | (rw [xsz_newo] at q3; omega) | omega
  have l2 : xsl g2 = xsl g + 22 := by omega
  have LL : WaysL g2 (a + 17) := by rw [← s]; exact q1
  have y2 := (q2.2.2.1 a (by omega)).trans y
  rw [s]
  refine Wp.vc 1 [] rfl ⟨isW y2 rfl, ?_⟩
  obtain ⟨k, hk⟩ : ∃ k, k = xputf g2 a 12 (a + 17) := ⟨_, rfl⟩
  rw [← hk]
  have p2 : XFr (X1W a 12) (X1A a) g2 k := by rw [hk]; exact (XFr.refl g2).putf (Or.inr ⟨rfl, by decide, by decide⟩)
  have ek : xfl k a 12 = a + 17 := by rw [hk]; (first | assumption | ((try simp only [xcs_putf, xty_putf, xar_putf, xsz_putf, xsl_putf, xfl_putf, xcs_puta, xty_puta, xfl_puta, xsz_puta, xsl_puta, xar_puta, xcs_copy, xty_copy, xfl_copy, xsz_copy, xsl_copy, xar_copy, xcs_newo, xar_newo, xsz_newo, xsl_newo, xty_newo, xfl_newo, xcs_newa, xfl_newa, xsz_newa, xsl_newa, xty_newa, xar_newa, and_true, true_and, and_false, false_and, ite_true, ite_false, eq_self, and_self]) <;> (repeat (first | rw [if_pos (by omega)] | rw [if_neg (by omega)])) <;> (first | assumption | rfl | omega)))
  have sk : xsz k = a + 20 := by rw [hk]; exact s2
  have lk : xsl k = xsl g + 22 := by rw [hk]; exact l2
  have LK : WaysL k (a + 17) := LL.keep p2 (by omega) (fun f hf w => by omega)
  have p := q2.trans p2 (fun _ _ _ w => w) (fun _ _ w => w)
  have y0 := (p.2.2.1 a (by omega)).trans y
  clear hk
  exact (x1_s13 y0 sk).imp (X1P.step p (by omega) (by decide) (fun h' q c => ⟨⟨(q.2.2.2.1 a 12 (by omega) (fun w => by omega)).trans ek, LK.keep q (by omega) (fun f hf w => by omega)⟩, c⟩))
def X1C11 (a : Int) (h : XH) : Prop := (xfl h a 11 = a + 13 ∧ RoomsL h (a + 13)) ∧ X1C12 a h
theorem x1_s11 {d : Nat} {g : XH} {a : Int} (y : xty g a = some (true, 0, none)) (s : xsz g = a + 13) : Wp (d + 5) 1 55 [some (.inr (.inr a)), none] [] g (X1P a 11 621 (X1C11 a) g) := by
  refine Wp.vc 3 [] rfl ?_
  refine Wp.callR (j := 0) rfl (Nat.le_of_ble_eq_true rfl) ⟨true, (by (first | assumption | ((try simp only [xcs_putf, xty_putf, xar_putf, xsz_putf, xsl_putf, xfl_putf, xcs_puta, xty_puta, xfl_puta, xsz_puta, xsl_puta, xar_puta, xcs_copy, xty_copy, xfl_copy, xsz_copy, xsl_copy, xar_copy, xcs_newo, xar_newo, xsz_newo, xsl_newo, xty_newo, xfl_newo, xcs_newa, xfl_newa, xsz_newa, xsl_newa, xty_newa, xar_newa, and_true, true_and, and_false, false_and, ite_true, ite_false, eq_self, and_self]) <;> (repeat (first | rw [if_pos (by omega)] | rw [if_neg (by omega)])) <;> (first | assumption | rfl | omega))))⟩ (x_Rooms_init (by (first | assumption | ((try simp only [xcs_putf, xty_putf, xar_putf, xsz_putf, xsl_putf, xfl_putf, xcs_puta, xty_puta, xfl_puta, xsz_puta, xsl_puta, xar_puta, xcs_copy, xty_copy, xfl_copy, xsz_copy, xsl_copy, xar_copy, xcs_newo, xar_newo, xsz_newo, xsl_newo, xty_newo, xfl_newo, xcs_newa, xfl_newa, xsz_newa, xsl_newa, xty_newa, xar_newa, and_true, true_and, and_false, false_and, ite_true, ite_false, eq_self, and_self]) <;> (repeat (first | rw [if_pos (by omega)] | rw [if_neg (by omega)])) <;> (first | assumption | rfl | omega)))) (by (first | assumption | ((try simp only [xcs_putf, xty_putf, xar_putf, xsz_putf, xsl_putf, xfl_putf, xcs_puta, xty_puta, xfl_puta, xsz_puta, xsl_puta, xar_puta, xcs_copy, xty_copy, xfl_copy, xsz_copy, xsl_copy, xar_copy, xcs_newo, xar_newo, xsz_newo, xsl_newo, xty_newo, xfl_newo, xcs_newa, xfl_newa, xsz_newa, xsl_newa, xty_newa, xar_newa, and_true, true_and, and_false, false_and, ite_true, ite_false, eq_self, and_self]) <;> (repeat (first | rw [if_pos (by omega)] | rw [if_neg (by omega)])) <;> (first | assumption | rfl | omega))))) (fun v g2 q => ?_)
  obtain ⟨rfl, q1, q2, q3, q4⟩ := q
  rw [xsl_newo] at q4
  have q2 : XFr (X1W a 11) (X1A a) g g2 := ((XFr.refl g).newo).sub q2 (Int.le_refl _)
  have s2 : xsz g2 = a + 17 := by first | (rw [xsz_newo] at q3; omega) | omega
  have l2 : xsl g2 = xsl g + 20 := by omega
  have LL : RoomsL g2 (a + 13) := by rw [← s]; exact q1
  have y2 := (q2.2.2.1 a (by omega)).trans y
  rw [s]
  refine Wp.vc 1 [] rfl ⟨isW y2 rfl, ?_⟩
  obtain ⟨k, hk⟩ : ∃ k, k = xputf g2 a 11 (a + 13) := ⟨_, rfl⟩
  rw [← hk]
  have p2 : XFr (X1W a 11) (X1A a) g2 k := by rw [hk]; exact (XFr.refl g2).putf (Or.inr ⟨rfl, by decide, by decide⟩)
  have ek : xfl k a 11 = a + 13 := by rw [hk]; (first | assumption | ((try simp only [xcs_putf, xty_putf, xar_putf, xsz_putf, xsl_putf, xfl_putf, xcs_puta, xty_puta, xfl_puta, xsz_puta, xsl_puta, xar_puta, xcs_copy, xty_copy, xfl_copy, xsz_copy, xsl_copy, xar_copy, xcs_newo, xar_newo, xsz_newo, xsl_newo, xty_newo, xfl_newo, xcs_newa, xfl_newa, xsz_newa, xsl_newa, xty_newa, xar_newa, and_true, true_and, and_false, false_and, ite_true, ite_false, eq_self, and_self]) <;> (repeat (first | rw [if_pos (by omega)] | rw [if_neg (by omega)])) <;> (first | assumption | rfl | omega)))
  have sk : xsz k = a + 17 := by rw [hk]; exact s2
  have lk : xsl k = xsl g + 20 := by rw [hk]; exact l2
  have LK : RoomsL k (a + 13) := LL.keep p2 (fun f hf w => by omega)
  have p := q2.trans p2 (fun _ _ _ w => w) (fun _ _ w => w)
  have y0 := (p.2.2.1 a (by omega)).trans y
  clear hk
  exact (x1_s12 y0 sk).imp (X1P.step p (by omega) (by decide) (fun h' q c => ⟨⟨(q.2.2.2.1 a 11 (by omega) (fun w => by omega)).trans ek, LK.keep q (fun f hf w => by omega)⟩, c⟩))
def X1C10 (a : Int) (h : XH) : Prop := (xfl h a 10 = a + 9 ∧ RoomsL h (a + 9)) ∧ X1C11 a h
theorem x1_s10 {d : Nat} {g : XH} {a : Int} (y : xty g a = some (true, 0, none)) (s : xsz g = a + 9) : Wp (d + 5) 1 44 [some (.inr (.inr a)), none] [] g (X1P a 10 641 (X1C10 a) g) := by
  refine Wp.vc 3 [] rfl ?_
  refine Wp.callR (j := 0) rfl (Nat.le_of_ble_eq_true rfl) ⟨true, (by (first | assumption | ((try simp only [xcs_putf, xty_putf, xar_putf, xsz_putf, xsl_putf, xfl_putf, xcs_puta, xty_puta, xfl_puta, xsz_puta, xsl_puta, xar_puta, xcs_copy, xty_copy, xfl_copy, xsz_copy, xsl_copy, xar_copy, xcs_newo, xar_newo, xsz_newo, xsl_newo, xty_newo, xfl_newo, xcs_newa, xfl_newa, xsz_newa, xsl_newa, xty_newa, xar_newa, and_true, true_and, and_false, false_and, ite_true, ite_false, eq_self, and_self]) <;> (repeat (first | rw [if_pos (by omega)] | rw [if_neg (by omega)])) <;> (first | assumption | rfl | omega))))⟩ (x_Rooms_init (by (first | assumption | ((try simp only [xcs_putf, xty_putf, xar_putf, xsz_putf, xsl_putf, xfl_putf, xcs_puta, xty_puta, xfl_puta, xsz_puta, xsl_puta, xar_puta, xcs_copy, xty_copy, xfl_copy, xsz_copy, xsl_copy, xar_copy, xcs_newo, xar_newo, xsz_newo, xsl_newo, xty_newo, xfl_newo, xcs_newa, xfl_newa, xsz_newa, xsl_newa, xty_newa, xar_newa, and_true, true_and, and_false, false_and, ite_true, ite_false, eq_self, and_self]) <;> (repeat (first | rw [if_pos (by omega)] | rw [if_neg (by omega)])) <;> (first | assumption | rfl | omega)))) (by (first | assumption | ((try simp only [xcs_putf, xty_putf, xar_putf, xsz_putf, xsl_putf, xfl_putf, xcs_puta, xty_puta, xfl_puta, xsz_puta, xsl_puta, xar_puta, xcs_copy, xty_copy, xfl_copy, xsz_copy, xsl_copy, xar_copy, xcs_newo, xar_newo, xsz_newo, xsl_newo, xty_newo, xfl_newo, xcs_newa, xfl_newa, xsz_newa, xsl_newa, xty_newa, xar_newa, and_true, true_and, and_false, false_and, ite_true, ite_false, eq_self, and_self]) <;> (repeat (first | rw [if_pos (by omega)] | rw [if_neg (by omega)])) <;> (first | assumption | rfl | omega))))) (fun v g2 q => ?_)
  obtain ⟨rfl, q1, q2, q3, q4⟩ := q
  rw [xsl_newo] at q4
  have q2 : XFr (X1W a 10) (X1A a) g g2 := ((XFr.refl g).newo).sub q2 (Int.le_refl _)
  have s2 : xsz g2 = a + 13 := by first | (rw [xsz_newo] at q3; omega) | omega
  have l2 : xsl g2 = xsl g + 20 := by omega
  have LL : RoomsL g2 (a + 9) := by rw [← s]; exact q1
  have y2 := (q2.2.2.1 a (by omega)).trans y
  rw [s]
  refine Wp.vc 1 [] rfl ⟨isW y2 rfl, ?_⟩
  obtain ⟨k, hk⟩ : ∃ k, k = xputf g2 a 10 (a + 9) := ⟨_, rfl⟩
  rw [← hk]
  have p2 : XFr (X1W a 10) (X1A a) g2 k := by rw [hk]; exact (XFr.refl g2).putf (Or.inr ⟨rfl, by decide, by decide⟩)
  have ek : xfl k a 10 = a + 9 := by rw [hk]; (first | assumption | ((try simp only [xcs_putf, xty_putf, xar_putf, xsz_putf, xsl_putf, xfl_putf, xcs_puta, xty_puta, xfl_puta, xsz_puta, xsl_puta, xar_puta, xcs_copy, xty_copy, xfl_copy, xsz_copy, xsl_copy, xar_copy, xcs_newo, xar_newo, xsz_newo, xsl_newo, xty_newo, xfl_newo, xcs_newa, xfl_newa, xsz_newa, xsl_newa, xty_newa, xar_newa, and_true, true_and, and_false, false_and, ite_true, ite_false, eq_self, and_self]) <;> (repeat (first | rw [if_pos (by omega)] | rw [if_neg (by omega)])) <;> (first | assumption | rfl | omega)))
  have sk : xsz k = a + 13 := by rw [hk]; exact s2
  have lk : xsl k = xsl g + 20 := by rw [hk]; exact l2
  have LK : RoomsL k (a + 9) := LL.keep p2 (fun f hf w => by omega)
  have p := q2.trans p2 (fun _ _ _ w => w) (fun _ _ w => w)
  have y0 := (p.2.2.1 a (by omega)).trans y
  clear hk
  exact (x1_s11 y0 sk).imp (X1P.step p (by omega) (by decide) (fun h' q c => ⟨⟨(q.2.2.2.1 a 10 (by omega) (fun w => by omega)).trans ek, LK.keep q (fun f hf w => by omega)⟩, c⟩))
def X1C9 (a : Int) (h : XH) : Prop := (xfl h a 9 = a + 5 ∧ RoomsL h (a + 5)) ∧ X1C10 a h
theorem x1_s9 {d : Nat} {g : XH} {a : Int} (y : xty g a = some (true, 0, none)) (s : xsz g = a + 5) : Wp (d + 5) 1 33 [some (.inr (.inr a)), none] [] g (X1P a 9 661 (X1C9 a) g) := by
  refine Wp.vc 3 [] rfl ?_
  refine Wp.callR (j := 0) rfl (Nat.le_of_ble_eq_true rfl) ⟨true, (by (first | assumption | ((try simp only [xcs_putf, xty_putf, xar_putf, xsz_putf, xsl_putf, xfl_putf, xcs_puta, xty_puta, xfl_puta, xsz_puta, xsl_puta, xar_puta, xcs_copy, xty_copy, xfl_copy, xsz_copy, xsl_copy, xar_copy, xcs_newo, xar_newo, xsz_newo, xsl_newo, xty_newo, xfl_newo, xcs_newa, xfl_newa, xsz_newa, xsl_newa, xty_newa, xar_newa, and_true, true_and, and_false, false_and, ite_true, ite_false, eq_self, and_self]) <;> (repeat (first | rw [if_pos (by omega)] | rw [if_neg (by omega)])) <;> (first | assumption | rfl | omega))))⟩ (x_Rooms_init (by (first | assumption | ((try simp only [xcs_putf, xty_putf, xar_putf, xsz_putf, xsl_putf, xfl_putf, xcs_puta, xty_puta, xfl_puta, xsz_puta, xsl_puta, xar_puta, xcs_copy, xty_copy, xfl_copy, xsz_copy, xsl_copy, xar_copy, xcs_newo, xar_newo, xsz_newo, xsl_newo, xty_newo, xfl_newo, xcs_newa, xfl_newa, xsz_newa, xsl_newa, xty_newa, xar_newa, and_true, true_and, and_false, false_and, ite_true, ite_false, eq_self, and_self]) <;> (repeat (first | rw [if_pos (by omega)] | rw [if_neg (by omega)])) <;> (first | assumption | rfl | omega)))) (by (first | assumption | ((try simp only [xcs_putf, xty_putf, xar_putf, xsz_putf, xsl_putf, xfl_putf, xcs_puta, xty_puta, xfl_puta, xsz_puta, xsl_puta, xar_puta, xcs_copy, xty_copy, xfl_copy, xsz_copy, xsl_copy, xar_copy, xcs_newo, xar_newo, xsz_newo, xsl_newo, xty_newo, xfl_newo, xcs_newa, xfl_newa, xsz_newa, xsl_newa, xty_newa, xar_newa, and_true, true_and, and_false, false_and, ite_true, ite_false, eq_self, and_self]) <;> (repeat (first | rw [if_pos (by omega)] | rw [if_neg (by omega)])) <;> (first | assumption | rfl | omega))))) (fun v g2 q => ?_)
  obtain ⟨rfl, q1, q2, q3, q4⟩ := q
  rw [xsl_newo] at q4
  have q2 : XFr (X1W a 9) (X1A a) g g2 := ((XFr.refl g).newo).sub q2 (Int.le_refl _)
  have s2 : xsz g2 = a + 9 := by first | (rw [xsz_newo] at q3; omega) | omega
  have l2 : xsl g2 = xsl g + 20 := by omega
  have LL : RoomsL g2 (a + 5) := by rw [← s]; exact q1
  have y2 := (q2.2.2.1 a (by omega)).trans y
  rw [s]
  refine Wp.vc 1 [] rfl ⟨isW y2 rfl, ?_⟩
  obtain ⟨k, hk⟩ : ∃ k, k = xputf g2 a 9 (a + 5) := ⟨_, rfl⟩
  rw [← hk]
  have p2 : XFr (X1W a 9) (X1A a) g2 k := by rw [hk]; exact (XFr.refl g2).putf (Or.inr ⟨rfl, by decide, by decide⟩)
  have ek : xfl k a 9 = a + 5 := by rw [hk]; (first | assumption | ((try simp only [xcs_putf, xty_putf, xar_putf, xsz_putf, xsl_putf, xfl_putf, xcs_puta, xty_puta, xfl_puta, xsz_puta, xsl_puta, xar_puta, xcs_copy, xty_copy, xfl_copy, xsz_copy, xsl_copy, xar_copy, xcs_newo, xar_newo, xsz_newo, xsl_newo, xty_newo, xfl_newo, xcs_newa, xfl_newa, xsz_newa, xsl_newa, xty_newa, xar_newa, and_true, true_and, and_false, false_and, ite_true, ite_false, eq_self, and_self]) <;> (repeat (first | rw [if_pos (by omega)] | rw [if_neg (by omega)])) <;> (first | assumption | rfl | omega)))
  have sk : xsz k = a + 9 := by rw [hk]; exact s2
  have lk : xsl k = xsl g + 20 := by rw [hk]; exact l2
  have LK : RoomsL k (a + 5) := LL.keep p2 (fun f hf w => by omega)
  have p := q2.trans p2 (fun _ _ _ w => w) (fun _ _ w => w)
  have y0 := (p.2.2.1 a (by omega)).trans y
  clear hk
  exact (x1_s10 y0 sk).imp (X1P.step p (by omega) (by decide) (fun h' q c => ⟨⟨(q.2.2.2.1 a 9 (by omega) (fun w => by omega)).trans ek, LK.keep q (fun f hf w => by omega)⟩, c⟩))
def X1C6 (a : Int) (h : XH) : Prop := xfl h a 6 = -1 ∧ X1C9 a h
theorem x1_s6 {d : Nat} {g : XH} {a : Int} (y : xty g a = some (true, 0, none)) (s : xsz g = a + 5) : Wp (d + 5) 1 28 [some (.inr (.inr a)), none] [] g (X1P a 6 661 (X1C6 a) g) := by
  refine Wp.vc 3 [] rfl ⟨isW y rfl, ?_⟩
  have p : XFr (X1W a 6) (X1A a) g (xputf g a 6 (-1)) := (XFr.refl g).putf (Or.inr ⟨rfl, by decide, by decide⟩)
  have ek : xfl (xputf g a 6 (-1)) a 6 = -1 := (by (first | assumption | ((try simp only [xcs_putf, xty_putf, xar_putf, xsz_putf, xsl_putf, xfl_putf, xcs_puta, xty_puta, xfl_puta, xsz_puta, xsl_puta, xar_puta, xcs_copy, xty_copy, xfl_copy, xsz_copy, xsl_copy, xar_copy, xcs_newo, xar_newo, xsz_newo, xsl_newo, xty_newo, xfl_newo, xcs_newa, xfl_newa, xsz_newa, xsl_newa, xty_newa, xar_newa, and_true, true_and, and_false, false_and, ite_true, ite_false, eq_self, and_self]) <;> (repeat (first | rw [if_pos (by omega)] | rw [if_neg (by omega)])) <;> (first | assumption | rfl | omega))))
  exact (x1_s9 (g := xputf g a 6 (-1)) y s).imp (X1P.step p rfl (by decide) (fun h' q c => ⟨(q.2.2.2.1 a 6 (by show a < xsz g; omega) (fun w => by omega)).trans ek, c⟩))
def X1C2 (a : Int) (h : XH) : Prop := (xfl h a 2 = a + 2 ∧ ReaderL h (a + 2) (a + 1)) ∧ X1C6 a h
theorem x1_s2 {d : Nat} {g : XH} {a : Int} (y : xty g a = some (true, 0, none)) (s : xsz g = a + 2) (e0 : xfl g a 0 = a + 1) : Wp (d + 5) 1 13 [some (.inr (.inr a)), none] [] g (X1P a 2 688 (X1C2 a) g) := by
  refine Wp.vc 5 [] rfl ⟨isF (by (first | assumption | ((try simp only [xcs_putf, xty_putf, xar_putf, xsz_putf, xsl_putf, xfl_putf, xcs_puta, xty_puta, xfl_puta, xsz_puta, xsl_puta, xar_puta, xcs_copy, xty_copy, xfl_copy, xsz_copy, xsl_copy, xar_copy, xcs_newo, xar_newo, xsz_newo, xsl_newo, xty_newo, xfl_newo, xcs_newa, xfl_newa, xsz_newa, xsl_newa, xty_newa, xar_newa, and_true, true_and, and_false, false_and, ite_true, ite_false, eq_self, and_self]) <;> (repeat (first | rw [if_pos (by omega)] | rw [if_neg (by omega)])) <;> (first | assumption | rfl | omega)))) rfl, ?_⟩
  have ea : xfl (xnewo g 1 11) a 0 = a + 1 := (by (first | assumption | ((try simp only [xcs_putf, xty_putf, xar_putf, xsz_putf, xsl_putf, xfl_putf, xcs_puta, xty_puta, xfl_puta, xsz_puta, xsl_puta, xar_puta, xcs_copy, xty_copy, xfl_copy, xsz_copy, xsl_copy, xar_copy, xcs_newo, xar_newo, xsz_newo, xsl_newo, xty_newo, xfl_newo, xcs_newa, xfl_newa, xsz_newa, xsl_newa, xty_newa, xar_newa, and_true, true_and, and_false, false_and, ite_true, ite_false, eq_self, and_self]) <;> (repeat (first | rw [if_pos (by omega)] | rw [if_neg (by omega)])) <;> (first | assumption | rfl | omega))))
  rw [ea]
  refine Wp.callR (j := 0) rfl (Nat.le_of_ble_eq_true rfl) ⟨true, (by (first | assumption | ((try simp only [xcs_putf, xty_putf, xar_putf, xsz_putf, xsl_putf, xfl_putf, xcs_puta, xty_puta, xfl_puta, xsz_puta, xsl_puta, xar_puta, xcs_copy, xty_copy, xfl_copy, xsz_copy, xsl_copy, xar_copy, xcs_newo, xar_newo, xsz_newo, xsl_newo, xty_newo, xfl_newo, xcs_newa, xfl_newa, xsz_newa, xsl_newa, xty_newa, xar_newa, and_true, true_and, and_false, false_and, ite_true, ite_false, eq_self, and_self]) <;> (repeat (first | rw [if_pos (by omega)] | rw [if_neg (by omega)])) <;> (first | assumption | rfl | omega))))⟩ (x_Reader_init (by (first | assumption | ((try simp only [xcs_putf, xty_putf, xar_putf, xsz_putf, xsl_putf, xfl_putf, xcs_puta, xty_puta, xfl_puta, xsz_puta, xsl_puta, xar_puta, xcs_copy, xty_copy, xfl_copy, xsz_copy, xsl_copy, xar_copy, xcs_newo, xar_newo, xsz_newo, xsl_newo, xty_newo, xfl_newo, xcs_newa, xfl_newa, xsz_newa, xsl_newa, xty_newa, xar_newa, and_true, true_and, and_false, false_and, ite_true, ite_false, eq_self, and_self]) <;> (repeat (first | rw [if_pos (by omega)] | rw [if_neg (by omega)])) <;> (first | assumption | rfl | omega)))) (by (first | assumption | ((try simp only [xcs_putf, xty_putf, xar_putf, xsz_putf, xsl_putf, xfl_putf, xcs_puta, xty_puta, xfl_puta, xsz_puta, xsl_puta, xar_puta, xcs_copy, xty_copy, xfl_copy, xsz_copy, xsl_copy, xar_copy, xcs_newo, xar_newo, xsz_newo, xsl_newo, xty_newo, xfl_newo, xcs_newa, xfl_newa, xsz_newa, xsl_newa, xty_newa, xar_newa, and_true, true_and, and_false, false_and, ite_true, ite_false, eq_self, and_self]) <;> (repeat (first | rw [if_pos (by omega)] | rw [if_neg (by omega)])) <;> (first | assumption | rfl | omega))))) (fun v g2 q => ?_)
  obtain ⟨rfl, q2, q3, q4, q1⟩ := q
  rw [xsl_newo] at q4
  rw [xsz_newo] at q3
  have q2 : XFr (X1W a 2) (X1A a) g g2 := ((XFr.refl g).newo).sub q2 (Int.le_refl _)
  have s2 : xsz g2 = a + 5 := by omega
  have l2 : xsl g2 = xsl g + 27 := by omega
  have LL : ReaderL g2 (a + 2) (a + 1) := by rw [← s]; exact q1
  have y2 := (q2.2.2.1 a (by omega)).trans y
  rw [s]
  refine Wp.vc 1 [] rfl ⟨isW y2 rfl, ?_⟩
  obtain ⟨k, hk⟩ : ∃ k, k = xputf g2 a 2 (a + 2) := ⟨_, rfl⟩
  rw [← hk]
  have p2 : XFr (X1W a 2) (X1A a) g2 k := by rw [hk]; exact (XFr.refl g2).putf (Or.inr ⟨rfl, by decide, by decide⟩)
  have ek : xfl k a 2 = a + 2 := by rw [hk]; (first | assumption | ((try simp only [xcs_putf, xty_putf, xar_putf, xsz_putf, xsl_putf, xfl_putf, xcs_puta, xty_puta, xfl_puta, xsz_puta, xsl_puta, xar_puta, xcs_copy, xty_copy, xfl_copy, xsz_copy, xsl_copy, xar_copy, xcs_newo, xar_newo, xsz_newo, xsl_newo, xty_newo, xfl_newo, xcs_newa, xfl_newa, xsz_newa, xsl_newa, xty_newa, xar_newa, and_true, true_and, and_false, false_and, ite_true, ite_false, eq_self, and_self]) <;> (repeat (first | rw [if_pos (by omega)] | rw [if_neg (by omega)])) <;> (first | assumption | rfl | omega)))
  have sk : xsz k = a + 5 := by rw [hk]; exact s2
  have lk : xsl k = xsl g + 27 := by rw [hk]; exact l2
  have LK : ReaderL k (a + 2) (a + 1) := LL.keep p2 (by omega) (fun f hf w => by omega)
  have p := q2.trans p2 (fun _ _ _ w => w) (fun _ _ w => w)
  have y0 := (p.2.2.1 a (by omega)).trans y
  clear hk
  exact (x1_s6 y0 sk).imp (X1P.step p (by omega) (by decide) (fun h' q c => ⟨⟨(q.2.2.2.1 a 2 (by omega) (fun w => by omega)).trans ek, LK.keep q (by omega) (fun f hf w => by omega)⟩, c⟩))
def X1C0 (a : Int) (h : XH) : Prop := (xty h (a + 1) = some (true, 1, some 1100) ∧ xfl h a 0 = a + 1) ∧ X1C2 a h
theorem x_init {d : Nat} {g : XH} {a : Int} (y : xty g a = some (true, 0, none)) (s : xsz g = a + 1) : WpM (d + 5) 1 [.inr (.inr a)] g (X1P a 0 1788 (X1C0 a) g) := by
  refine WpM.of rfl (Wp.vc 6 [] rfl ?_)
  refine ⟨⟨_, _, y⟩, ⟨by decide, by decide⟩, isW (by (first | assumption | ((try simp only [xcs_putf, xty_putf, xar_putf, xsz_putf, xsl_putf, xfl_putf, xcs_puta, xty_puta, xfl_puta, xsz_puta, xsl_puta, xar_puta, xcs_copy, xty_copy, xfl_copy, xsz_copy, xsl_copy, xar_copy, xcs_newo, xar_newo, xsz_newo, xsl_newo, xty_newo, xfl_newo, xcs_newa, xfl_newa, xsz_newa, xsl_newa, xty_newa, xar_newa, and_true, true_and, and_false, false_and, ite_true, ite_false, eq_self, and_self]) <;> (repeat (first | rw [if_pos (by omega)] | rw [if_neg (by omega)])) <;> (first | assumption | rfl | omega)))) rfl, ?_⟩
  obtain ⟨k, hk⟩ : ∃ k, k = xputf (xnewa g 1 1100) a 0 (xsz g) := ⟨_, rfl⟩
  rw [← hk]
  have p : XFr (X1W a 0) (X1A a) g k := by rw [hk]; exact ((XFr.refl g).newa).putf (Or.inr ⟨rfl, by decide, by decide⟩)
  have yk : xty k (a + 1) = some (true, 1, some 1100) := by rw [hk]; (first | assumption | ((try simp only [xcs_putf, xty_putf, xar_putf, xsz_putf, xsl_putf, xfl_putf, xcs_puta, xty_puta, xfl_puta, xsz_puta, xsl_puta, xar_puta, xcs_copy, xty_copy, xfl_copy, xsz_copy, xsl_copy, xar_copy, xcs_newo, xar_newo, xsz_newo, xsl_newo, xty_newo, xfl_newo, xcs_newa, xfl_newa, xsz_newa, xsl_newa, xty_newa, xar_newa, and_true, true_and, and_false, false_and, ite_true, ite_false, eq_self, and_self]) <;> (repeat (first | rw [if_pos (by omega)] | rw [if_neg (by omega)])) <;> (first | assumption | rfl | omega)))
  have ek : xfl k a 0 = a + 1 := by rw [hk]; (first | assumption | ((try simp only [xcs_putf, xty_putf, xar_putf, xsz_putf, xsl_putf, xfl_putf, xcs_puta, xty_puta, xfl_puta, xsz_puta, xsl_puta, xar_puta, xcs_copy, xty_copy, xfl_copy, xsz_copy, xsl_copy, xar_copy, xcs_newo, xar_newo, xsz_newo, xsl_newo, xty_newo, xfl_newo, xcs_newa, xfl_newa, xsz_newa, xsl_newa, xty_newa, xar_newa, and_true, true_and, and_false, false_and, ite_true, ite_false, eq_self, and_self]) <;> (repeat (first | rw [if_pos (by omega)] | rw [if_neg (by omega)])) <;> (first | assumption | rfl | omega)))
  have sk : xsz k = a + 2 := by rw [hk]; ((try simp only [xcs_putf, xty_putf, xar_putf, xsz_putf, xsl_putf, xfl_putf, xcs_puta, xty_puta, xfl_puta, xsz_puta, xsl_puta, xar_puta, xcs_copy, xty_copy, xfl_copy, xsz_copy, xsl_copy, xar_copy, xcs_newo, xar_newo, xsz_newo, xsl_newo, xty_newo, xfl_newo, xcs_newa, xfl_newa, xsz_newa, xsl_newa, xty_newa, xar_newa, and_true, true_and, and_false, false_and, ite_true, ite_false, eq_self, and_self]) <;> omega)
  have lk : xsl k = xsl g + 1100 := by rw [hk]; ((try simp only [xcs_putf, xty_putf, xar_putf, xsz_putf, xsl_putf, xfl_putf, xcs_puta, xty_puta, xfl_puta, xsz_puta, xsl_puta, xar_puta, xcs_copy, xty_copy, xfl_copy, xsz_copy, xsl_copy, xar_copy, xcs_newo, xar_newo, xsz_newo, xsl_newo, xty_newo, xfl_newo, xcs_newa, xfl_newa, xsz_newa, xsl_newa, xty_newa, xar_newa, and_true, true_and, and_false, false_and, ite_true, ite_false, eq_self, and_self]) <;> omega)
  have y0 := (p.2.2.1 a (by omega)).trans y
  clear hk
  exact (x1_s2 y0 sk ek).imp (X1P.step p (by omega) (by decide) (fun h' q c => ⟨⟨(q.2.2.1 _ (by omega)).trans yk, (q.2.2.2.1 a 0 (by omega) (fun w => by omega)).trans ek⟩, c⟩))
