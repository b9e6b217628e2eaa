/-! WALKS, 80: WrongRoom's reader: read -/
set_option maxRecDepth 100000
set_option maxHeartbeats 4000000
theorem x_Town_init {d : Nat} {h : XH} {t : Int} (ht : xty h t = some (true, 10, none)) (hs : xsz h = t + 1) : WpM d 256 [.inr (.inr t)] h (XMade t 4 72 (fun h' => (xfl h' t 105 = t + 1 ∧ xfl h' t 106 = t + 2 ∧ xfl h' t 107 = t + 3 ∧ xfl h' t 108 = t + 4) ∧ (xty h' (t + 1) = some (true, 5, some 7) ∧ xty h' (t + 2) = some (true, 6, some 4) ∧ xty h' (t + 3) = some (true, 7, some 12) ∧ xty h' (t + 4) = some (true, 0, some 49)) ∧ (∀ f, 109 ≤ f → xfl h' t f = xfl h t f) ∧ ∀ i, xar h' (t + 4) i = 0) h) := by
  refine WpM.of rfl (Wp.vc 400 [] rfl ?_)
  refine ⟨⟨_, _, ht⟩, ⟨by decide, by decide⟩, isW (by (first | assumption | ((try simp only [xcs_putf, xty_putf, xar_putf, xsz_putf, xsl_putf, xfl_putf, xcs_puta, xty_puta, xfl_puta, xsz_puta, xsl_puta, xar_puta, xcs_copy, xty_copy, xfl_copy, xsz_copy, xsl_copy, xar_copy, xcs_newo, xar_newo, xsz_newo, xsl_newo, xty_newo, xfl_newo, xcs_newa, xfl_newa, xsz_newa, xsl_newa, xty_newa, xar_newa, and_true, true_and, and_false, false_and, ite_true, ite_false, eq_self, and_self]) <;> (repeat (first | rw [if_pos (by omega)] | rw [if_neg (by omega)])) <;> (first | assumption | rfl | omega)))) rfl, ⟨by decide, by decide⟩, isW (by (first | assumption | ((try simp only [xcs_putf, xty_putf, xar_putf, xsz_putf, xsl_putf, xfl_putf, xcs_puta, xty_puta, xfl_puta, xsz_puta, xsl_puta, xar_puta, xcs_copy, xty_copy, xfl_copy, xsz_copy, xsl_copy, xar_copy, xcs_newo, xar_newo, xsz_newo, xsl_newo, xty_newo, xfl_newo, xcs_newa, xfl_newa, xsz_newa, xsl_newa, xty_newa, xar_newa, and_true, true_and, and_false, false_and, ite_true, ite_false, eq_self, and_self]) <;> (repeat (first | rw [if_pos (by omega)] | rw [if_neg (by omega)])) <;> (first | assumption | rfl | omega)))) rfl, ⟨by decide, by decide⟩, isW (by (first | assumption | ((try simp only [xcs_putf, xty_putf, xar_putf, xsz_putf, xsl_putf, xfl_putf, xcs_puta, xty_puta, xfl_puta, xsz_puta, xsl_puta, xar_puta, xcs_copy, xty_copy, xfl_copy, xsz_copy, xsl_copy, xar_copy, xcs_newo, xar_newo, xsz_newo, xsl_newo, xty_newo, xfl_newo, xcs_newa, xfl_newa, xsz_newa, xsl_newa, xty_newa, xar_newa, and_true, true_and, and_false, false_and, ite_true, ite_false, eq_self, and_self]) <;> (repeat (first | rw [if_pos (by omega)] | rw [if_neg (by omega)])) <;> (first | assumption | rfl | omega)))) rfl, ⟨by decide, by decide⟩, isW (by (first | assumption | ((try simp only [xcs_putf, xty_putf, xar_putf, xsz_putf, xsl_putf, xfl_putf, xcs_puta, xty_puta, xfl_puta, xsz_puta, xsl_puta, xar_puta, xcs_copy, xty_copy, xfl_copy, xsz_copy, xsl_copy, xar_copy, xcs_newo, xar_newo, xsz_newo, xsl_newo, xty_newo, xfl_newo, xcs_newa, xfl_newa, xsz_newa, xsl_newa, xty_newa, xar_newa, and_true, true_and, and_false, false_and, ite_true, ite_false, eq_self, and_self]) <;> (repeat (first | rw [if_pos (by omega)] | rw [if_neg (by omega)])) <;> (first | assumption | rfl | omega)))) rfl, trivial, xmade ?_ ?_ ?_ ⟨⟨(by (first | assumption | ((try simp only [xcs_putf, xty_putf, xar_putf, xsz_putf, xsl_putf, xfl_putf, xcs_puta, xty_puta, xfl_puta, xsz_puta, xsl_puta, xar_puta, xcs_copy, xty_copy, xfl_copy, xsz_copy, xsl_copy, xar_copy, xcs_newo, xar_newo, xsz_newo, xsl_newo, xty_newo, xfl_newo, xcs_newa, xfl_newa, xsz_newa, xsl_newa, xty_newa, xar_newa, and_true, true_and, and_false, false_and, ite_true, ite_false, eq_self, and_self]) <;> (repeat (first | rw [if_pos (by omega)] | rw [if_neg (by omega)])) <;> (first | assumption | rfl | omega)))), (by (first | assumption | ((try simp only [xcs_putf, xty_putf, xar_putf, xsz_putf, xsl_putf, xfl_putf, xcs_puta, xty_puta, xfl_puta, xsz_puta, xsl_puta, xar_puta, xcs_copy, xty_copy, xfl_copy, xsz_copy, xsl_copy, xar_copy, xcs_newo, xar_newo, xsz_newo, xsl_newo, xty_newo, xfl_newo, xcs_newa, xfl_newa, xsz_newa, xsl_newa, xty_newa, xar_newa, and_true, true_and, and_false, false_and, ite_true, ite_false, eq_self, and_self]) <;> (repeat (first | rw [if_pos (by omega)] | rw [if_neg (by omega)])) <;> (first | assumption | rfl | omega)))), (by (first | assumption | ((try simp only [xcs_putf, xty_putf, xar_putf, xsz_putf, xsl_putf, xfl_putf, xcs_puta, xty_puta, xfl_puta, xsz_puta, xsl_puta, xar_puta, xcs_copy, xty_copy, xfl_copy, xsz_copy, xsl_copy, xar_copy, xcs_newo, xar_newo, xsz_newo, xsl_newo, xty_newo, xfl_newo, xcs_newa, xfl_newa, xsz_newa, xsl_newa, xty_newa, xar_newa, and_true, true_and, and_false, false_and, ite_true, ite_false, eq_self, and_self]) <;> (repeat (first | rw [if_pos (by omega)] | rw [if_neg (by omega)])) <;> (first | assumption | rfl | omega)))), (by (first | assumption | ((try simp only [xcs_putf, xty_putf, xar_putf, xsz_putf, xsl_putf, xfl_putf, xcs_puta, xty_puta, xfl_puta, xsz_puta, xsl_puta, xar_puta, xcs_copy, xty_copy, xfl_copy, xsz_copy, xsl_copy, xar_copy, xcs_newo, xar_newo, xsz_newo, xsl_newo, xty_newo, xfl_newo, xcs_newa, xfl_newa, xsz_newa, xsl_newa, xty_newa, xar_newa, and_true, true_and, and_false, false_and, ite_true, ite_false, eq_self, and_self]) <;> (repeat (first | rw [if_pos (by omega)] | rw [if_neg (by omega)])) <;> (first | assumption | rfl | omega))))⟩, ⟨(by (first | assumption | ((try simp only [xcs_putf, xty_putf, xar_putf, xsz_putf, xsl_putf, xfl_putf, xcs_puta, xty_puta, xfl_puta, xsz_puta, xsl_puta, xar_puta, xcs_copy, xty_copy, xfl_copy, xsz_copy, xsl_copy, xar_copy, xcs_newo, xar_newo, xsz_newo, xsl_newo, xty_newo, xfl_newo, xcs_newa, xfl_newa, xsz_newa, xsl_newa, xty_newa, xar_newa, and_true, true_and, and_false, false_and, ite_true, ite_false, eq_self, and_self]) <;> (repeat (first | rw [if_pos (by omega)] | rw [if_neg (by omega)])) <;> (first | assumption | rfl | omega)))), (by (first | assumption | ((try simp only [xcs_putf, xty_putf, xar_putf, xsz_putf, xsl_putf, xfl_putf, xcs_puta, xty_puta, xfl_puta, xsz_puta, xsl_puta, xar_puta, xcs_copy, xty_copy, xfl_copy, xsz_copy, xsl_copy, xar_copy, xcs_newo, xar_newo, xsz_newo, xsl_newo, xty_newo, xfl_newo, xcs_newa, xfl_newa, xsz_newa, xsl_newa, xty_newa, xar_newa, and_true, true_and, and_false, false_and, ite_true, ite_false, eq_self, and_self]) <;> (repeat (first | rw [if_pos (by omega)] | rw [if_neg (by omega)])) <;> (first | assumption | rfl | omega)))), (by (first | assumption | ((try simp only [xcs_putf, xty_putf, xar_putf, xsz_putf, xsl_putf, xfl_putf, xcs_puta, xty_puta, xfl_puta, xsz_puta, xsl_puta, xar_puta, xcs_copy, xty_copy, xfl_copy, xsz_copy, xsl_copy, xar_copy, xcs_newo, xar_newo, xsz_newo, xsl_newo, xty_newo, xfl_newo, xcs_newa, xfl_newa, xsz_newa, xsl_newa, xty_newa, xar_newa, and_true, true_and, and_false, false_and, ite_true, ite_false, eq_self, and_self]) <;> (repeat (first | rw [if_pos (by omega)] | rw [if_neg (by omega)])) <;> (first | assumption | rfl | omega)))), (by (first | assumption | ((try simp only [xcs_putf, xty_putf, xar_putf, xsz_putf, xsl_putf, xfl_putf, xcs_puta, xty_puta, xfl_puta, xsz_puta, xsl_puta, xar_puta, xcs_copy, xty_copy, xfl_copy, xsz_copy, xsl_copy, xar_copy, xcs_newo, xar_newo, xsz_newo, xsl_newo, xty_newo, xfl_newo, xcs_newa, xfl_newa, xsz_newa, xsl_newa, xty_newa, xar_newa, and_true, true_and, and_false, false_and, ite_true, ite_false, eq_self, and_self]) <;> (repeat (first | rw [if_pos (by omega)] | rw [if_neg (by omega)])) <;> (first | assumption | rfl | omega))))⟩, fun f hf => ?_, fun i => ?_⟩⟩
  · (repeat' (first | exact XFr.refl _ | assumption | apply XFr.putf | apply XFr.puta | apply XFr.newo | apply XFr.newa | apply XFr.copy | exact Or.inr rfl | exact Or.inr trivial | exact Or.inl (by omega) | exact Or.inr (by omega)))
  · ((try simp only [xcs_putf, xty_putf, xar_putf, xsz_putf, xsl_putf, xfl_putf, xcs_puta, xty_puta, xfl_puta, xsz_puta, xsl_puta, xar_puta, xcs_copy, xty_copy, xfl_copy, xsz_copy, xsl_copy, xar_copy, xcs_newo, xar_newo, xsz_newo, xsl_newo, xty_newo, xfl_newo, xcs_newa, xfl_newa, xsz_newa, xsl_newa, xty_newa, xar_newa, and_true, true_and, and_false, false_and, ite_true, ite_false, eq_self, and_self]) <;> omega)
  · ((try simp only [xcs_putf, xty_putf, xar_putf, xsz_putf, xsl_putf, xfl_putf, xcs_puta, xty_puta, xfl_puta, xsz_puta, xsl_puta, xar_puta, xcs_copy, xty_copy, xfl_copy, xsz_copy, xsl_copy, xar_copy, xcs_newo, xar_newo, xsz_newo, xsl_newo, xty_newo, xfl_newo, xcs_newa, xfl_newa, xsz_newa, xsl_newa, xty_newa, xar_newa, and_true, true_and, and_false, false_and, ite_true, ite_false, eq_self, and_self]) <;> omega)
  · simp only [xcs_putf, xty_putf, xar_putf, xsz_putf, xsl_putf, xfl_putf, xcs_puta, xty_puta, xfl_puta, xsz_puta, xsl_puta, xar_puta, xcs_copy, xty_copy, xfl_copy, xsz_copy, xsl_copy, xar_copy, xcs_newo, xar_newo, xsz_newo, xsl_newo, xty_newo, xfl_newo, xcs_newa, xfl_newa, xsz_newa, xsl_newa, xty_newa, xar_newa, and_true, true_and, and_false, false_and, ite_true, ite_false, eq_self, and_self]
    repeat rw [if_neg (by omega)]
  · simp only [xcs_putf, xty_putf, xar_putf, xsz_putf, xsl_putf, xfl_putf, xcs_puta, xty_puta, xfl_puta, xsz_puta, xsl_puta, xar_puta, xcs_copy, xty_copy, xfl_copy, xsz_copy, xsl_copy, xar_copy, xcs_newo, xar_newo, xsz_newo, xsl_newo, xty_newo, xfl_newo, xcs_newa, xfl_newa, xsz_newa, xsl_newa, xty_newa, xar_newa, and_true, true_and, and_false, false_and, ite_true, ite_false, eq_self, and_self]
    rw [if_pos (by omega)]
def XKt (s n : Int) (tp : List Int) (h : XH) : XX := (s, xsz h, xsl h + 84, tp, n, xputf h (s + 2) 24 n)
theorem x_read {d : Nat} {h : XH} {s n : Int} {tp : List Int} (hs : 1 ≤ s ∧ s + 126 ≤ xsz h) (L : ReaderL h (s + 2) (s + 1)) (T : xty h (s + 1) = some (true, 1, some 1100) ∧ ∀ j : Nat, (j : Int) < n → xar h (s + 1) (j : Int) = tp.getD j 0) (n0 : 0 ≤ n ∧ n ≤ 1100) (C : CstOK h s) (nz : xty h 0 = none) : WpM (d + 11) 74 [.inr (.inr (s + 2)), .inl n] h (XEn (XKt s n tp h) (6 + n) (rTown tp n) (XRdEnd (XKt s n tp h))) := by
  have tr := L.1
  obtain ⟨t, ht⟩ : ∃ t, t = xsz h := ⟨_, rfl⟩
  obtain ⟨h1, hh1⟩ : ∃ h1, h1 = xnewo (xputf (xputf h (s + 2) 24 n) (s + 2) 25 0) 10 12 := ⟨_, rfl⟩
  have tt : xty h1 t = some (true, 10, none) := by rw [hh1, xty_newo, if_pos (by rw [ht]; rfl)]
  have sz1 : xsz h1 = t + 1 := by rw [hh1, xsz_newo, ht]; rfl
  have sl1 : xsl h1 = xsl h + 12 := by rw [hh1, xsl_newo]; rfl
  have f0 : ∀ f, xfl h1 t f = 0 := fun f => by rw [hh1, xfl_newo, if_pos (by rw [ht]; rfl)]
  have kz' : kz (XKt s n tp h) = t := ht.symm
  have fr1 : XFr (fun z f => (z = s + 2 ∧ (f = 24 ∨ f = 25))) (fun _ => False) h h1 := by
    rw [hh1]
    exact (((XFr.refl h).putf (Or.inr ⟨rfl, Or.inl rfl⟩)).putf (Or.inr ⟨rfl, Or.inr rfl⟩)).newo
  have g24 : xfl h1 (s + 2) 24 = n := by rw [hh1, xfl_newo, if_neg (by show ¬ s + 2 = xsz h; omega), xfl_putf, if_neg (fun w => absurd w.2 (by decide)), xfl_putf, if_pos ⟨rfl, rfl⟩]
  have g25 : xfl h1 (s + 2) 25 = 0 := by rw [hh1, xfl_newo, if_neg (by show ¬ s + 2 = xsz h; omega), xfl_putf, if_pos ⟨rfl, rfl⟩]
  have q1 : FrT s (xsz h) (xputf h (s + 2) 24 n) h1 := by
    rw [hh1]
    exact ((XFr.refl _).putf (Or.inr (Or.inl ⟨rfl, by decide, by decide⟩))).newo
  refine WpM.of rfl (Wp.vc 400 [] rfl ?_)
  rw [← hh1, show xsz (xputf (xputf h (s + 2) 24 n) (s + 2) 25 0) = t from ht.symm]
  refine ⟨isW tr rfl, isW tr rfl, ?_⟩
  have tr1 : xty h1 (s + 2) = some (true, 1, none) := (fr1.2.2.1 _ (by omega)).trans tr
  have nz1 : xty h1 0 = none := (fr1.2.2.1 _ (by omega)).trans nz
  have C1 : CstOK h1 s := C.keep fr1 (by omega) (fun z f hz w => by omega) (fun _ _ w => w)
  have L1 : ReaderL h1 (s + 2) (s + 1) := ⟨tr1, (fr1.2.2.1 _ (by omega)).trans L.2.1, (fr1.2.2.1 _ (by omega)).trans L.2.2.1, (fr1.2.2.2.1 _ _ (by omega) (fun w => by omega)).trans L.2.2.2.1, (fr1.2.2.2.1 _ _ (by omega) (fun w => by omega)).trans L.2.2.2.2.1, (fr1.2.2.2.1 _ _ (by omega) (fun w => by omega)).trans L.2.2.2.2.2⟩
  have T1 : xty h1 (s + 1) = some (true, 1, some 1100) ∧ ∀ j : Nat, (j : Int) < n → xar h1 (s + 1) (j : Int) = tp.getD j 0 := ⟨(fr1.2.2.1 _ (by omega)).trans T.1, fun j hj => (fr1.2.2.2.2 _ _ (by omega) (fun w => w)).trans (T.2 j hj)⟩
  clear hh1
  refine Wp.callR (j := 0) rfl (Nat.le_of_ble_eq_true rfl) ⟨true, tt⟩ (x_Town_init tt sz1) (fun v h2 q => ?_)
  obtain ⟨rfl, p2, sz2, sl2, ⟨e5, e6, e7, e8⟩, ⟨t5, t6, t7, t8⟩, ef, ea⟩ := q
  have tt2 : xty h2 t = some (true, 10, none) := (p2.2.2.1 _ (by omega)).trans tt
  have tr2 : xty h2 (s + 2) = some (true, 1, none) := (p2.2.2.1 _ (by omega)).trans tr1
  have w2 : ∀ f, xfl h2 (s + 2) f = xfl h1 (s + 2) f := fun f => p2.2.2.2.1 _ _ (by omega) (fun w => by have w : s + 2 = t := w; omega)
  have nz2 : xty h2 0 = none := (p2.2.2.1 _ (by omega)).trans nz1
  obtain ⟨h3, hh3⟩ : ∃ h3, h3 = xputf (xputf h2 (s + 2) 30 t) (s + 2) 31 0 := ⟨_, rfl⟩
  have p3 : FrT s (xsz h) h2 h3 := by
    rw [hh3]
    exact ((XFr.refl _).putf (Or.inr (Or.inl ⟨rfl, by decide, by decide⟩))).putf (Or.inr (Or.inl ⟨rfl, by decide, by decide⟩))
  have p2T : FrT s (xsz h) h1 h2 := p2.mono (fun z f _ w => Or.inr (Or.inr (by have w : z = t := w; omega))) (fun _ _ w => w.elim)
  have fr3 : FrT s (xsz h) (xputf h (s + 2) 24 n) h3 := (q1.trans p2T).trans p3
  have XC1 : XC s (xsz h) tp n h1 := ⟨⟨hs.1, hs.2, by omega⟩, L1, T1, n0, C1, g24⟩
  have XC3 : XC s (xsz h) tp n h3 := (XC1.keepT p2T).keepT p3
  have fl3 : ∀ z f, ¬ (z = s + 2 ∧ (f = 30 ∨ f = 31)) → xfl h3 z f = xfl h2 z f := fun z f w => by rw [hh3, xfl_putf, if_neg (by omega), xfl_putf, if_neg (by omega)]
  have f30 : xfl h3 (s + 2) 30 = t := by rw [hh3, xfl_putf, if_neg (fun w => absurd w.2 (by decide)), xfl_putf, if_pos ⟨rfl, rfl⟩]
  have f31 : xfl h3 (s + 2) 31 = 0 := by rw [hh3, xfl_putf, if_pos ⟨rfl, rfl⟩]
  have ty3 : ∀ z, xty h3 z = xty h2 z := fun z => by rw [hh3]; rfl
  have ar3 : ∀ z i, xar h3 z i = xar h2 z i := fun z i => by rw [hh3]; rfl
  have sz3 : xsz h3 = t + 5 := by rw [hh3]; show xsz h2 = _; omega
  have sl3 : xsl h3 = xsl h + 84 := by rw [hh3]; show xsl h2 = _; omega
  have R0 : XR0 s (xsz h) (xsl h + 84) 5 tp n h3 0 := ⟨XC3, (fl3 _ _ (by omega)).trans ((w2 25).trans g25), by omega, by omega⟩
  have X3 : XRt (XKt s n tp h) h3 pt0 := by
    have ft : ∀ f, xfl h3 t f = xfl h2 t f := fun f => fl3 t f (by omega)
    have cell : ∀ z ty, t ≤ z → z < t + 5 → xty h2 z = some ty → CellX h3 (kz (XKt s n tp h)) z ty := fun z ty z0 z1 e => ⟨by rw [kz']; exact z0, by omega, (ty3 z).trans e⟩
    unfold XRt
    show (XTn _ h3 (xfl h3 (s + 2) 30) pt0) ∧ xfl h3 (s + 2) 31 = _ ∧ _
    rw [f30]
    refine ⟨⟨⟨cell _ _ (by omega) (by omega) tt2, ?_, ?_, fun i i0 i1 => ?_, fun i i0 i1 => ?_, fun k q hq => ?_, fun i j _ _ _ _ => ?_⟩, fun i w hw => ?_, fun i w hw => ?_, fun i i0 i1 => ?_⟩, f31, (ty3 0).trans nz2⟩
    · rw [ft, ft, ft, ft, e5, e6, e7, e8]
      exact ⟨cell _ _ (by omega) (by omega) t5, cell _ _ (by omega) (by omega) t6, cell _ _ (by omega) (by omega) t7, cell _ _ (by omega) (by omega) t8⟩
    · rw [ft, ft, ft, ft, ft, ft, ft, ft, ef 109 (by decide), ef 110 (by decide), ef 111 (by decide), ef 112 (by decide), ef 113 (by decide), ef 114 (by decide), ef 115 (by decide), ef 116 (by decide)]
      exact ⟨f0 _, f0 _, f0 _, f0 _, f0 _, f0 _, f0 _, f0 _⟩
    · have i1 : i < 0 := i1
      omega
    · have i1 : i < 0 := i1
      omega
    · have hq : ([] : List (Int × Int × Int))[k]? = some q := hq
      simp at hq
    · rw [ft, e8, ar3, ea]
      rfl
    · have hw : ([] : List (List Int))[i]? = some w := hw
      simp at hw
    · have hw : ([] : List (List Int))[i]? = some w := hw
      simp at hw
    · have i1 : i < 0 := i1
      omega
  have tr3 : xty h3 (s + 2) = some (true, 1, none) := (ty3 _).trans tr2
  refine Wp.vc 400 [30] rfl ?_
  rw [← hh3]
  refine ⟨isW tr2 rfl, ⟨isW tr2 rfl, by decide, by decide⟩, ?_⟩
  refine Wp.callR (j := 0) rfl (Nat.le_of_ble_eq_true rfl) ⟨true, tr3⟩ (x_next R0 ⟨Int.le_refl _, n0.1⟩) (fun v h4 q => ?_)
  obtain ⟨rfl, R4, p4⟩ := q
  have ok := nxt_ok (tp := tp) (n := n) (e := 0) ⟨Int.le_refl _, n0.1⟩
  have RZ : XZ (XKt s n tp h) 5 h4 (nxt tp n 0) := ⟨R4, fr3.trans p4.t, ok.1⟩
  have I0 := PI.first (e := le_ (nxt tp n 0)) (by have := ok.1.1; omega)
  have X4 : XRt (XKt s n tp h) h4 pt0 := X3.keep p4 ⟨hs.1, hs.2, by show xsz h ≤ xsz h3; omega⟩ I0.1
  have lo := ok.1.1
  have e : rTown tp n = rb (lLine tp n pt0 (nxt tp n 0)) (fun q => rb (if lk q.2 = 59 then lAll tp n (n.toNat + 1) q.1 (ga tp n q.2) else .inl q) rEnd) := rb_rb _ _ _
  rw [e]
  refine Wp.vc 400 [] rfl ?_
  refine XEn.bind (j := 0) rfl (Nat.le_of_ble_eq_true rfl) ⟨true, RZ.tr⟩ ((x_line (d := d + 1) RZ X4 I0).up (c' := 6 + n) (by omega)) rfl rfl (fun q v h5 e5 z => ?_)
  obtain ⟨rfl, R5, X5⟩ := z
  obtain ⟨-, I5, L5, lt⟩ := lLine_ok e5 I0 ok.1
  have nx := x_lines (d := d + 1) (l1 := some (.inl n)) (n.toNat + 1) (5 + 1) h5 q.2 q.1 R5 X5 I5 (by show n - le_ q.2 < _; omega) (by omega)
  exact nx
