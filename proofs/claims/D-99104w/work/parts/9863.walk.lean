/-! WALKS, 99c: the law from its first line -/
set_option maxRecDepth 100000
set_option maxHeartbeats 4000000
def S0_ : XSt := (none, fun _ => 0, [], [], (0, -1, 0), [])
theorem law_run {d : Nat} {h : XH} {s scr L : Int} {xs : Nat → Int} (es : xsz h = s) (hz : 1 ≤ s) (n0 : xty h 0 = none) (C : CstOK h s) (hs : 1 ≤ scr ∧ scr < s) (ts : xty h scr = some (false, 0, some L)) (hL : 0 ≤ L ∧ L ≤ 384) (hx : ∀ j : Nat, (j : Int) < L → xar h scr j = xs j ∧ -2147483648 ≤ xs j ∧ xs j < 2147483648) : Wp (d + 113) 297 0 [some (.inr (.inr scr)), none, none, none, none, none, none] [] h (LawE h s) := by
  obtain ⟨h1, hh1⟩ : ∃ h1, h1 = xnewo h 0 21 := ⟨_, rfl⟩
  have t1 : xty h1 s = some (true, 0, none) := by rw [hh1, xty_newo, if_pos es.symm]
  have s1 : xsz h1 = s + 1 := by rw [hh1, xsz_newo, es]
  have f1 : ∀ f, xfl h1 s f = 0 := fun f => by rw [hh1, xfl_newo, if_pos es.symm]
  have l1 : xsl h1 = xsl h + 21 := by rw [hh1, xsl_newo]; rfl
  have p1 : XFr (fun _ _ => False) (fun _ => False) h h1 := by rw [hh1]; exact (XFr.refl h).newo
  refine Wp.vc 400 [] rfl ?_
  rw [← hh1, es]
  refine Wp.callR (j := 0) rfl (Nat.le_of_ble_eq_true rfl) ⟨true, t1⟩ (x_init (d := d + 107) t1 s1) (fun v g q => ?_)
  obtain ⟨rfl, p2, s2, l2, c0⟩ := q
  have ts2 : xty g s = some (true, 0, none) := (p2.2.2.1 s (by omega)).trans t1
  have XL : XLay g s := XLay.of s2 ts2 c0
  have fg : ∀ f, ¬ (f = 0 ∨ f = 2 ∨ f = 6 ∨ (9 ≤ f ∧ f ≤ 19)) → xfl g s f = 0 := fun f hf => (p2.2.2.2.1 s f (by omega) (fun w => hf w.2.2)).trans (f1 f)
  have r47 : ∀ k : Int, 0 ≤ k → k < 16 → xar g (s + 47) k = s + 50 + 4 * ((k + 0) % 16) := fun k k0 k1 => by
    obtain ⟨-, -, -, -, -, -, -, -, -, -, -, -, -, -, c20, -⟩ := c0
    rw [(c20 k k0 k1).2, show (k + 0) % 16 = k by omega]
  obtain ⟨h3, hh3⟩ : ∃ h3, h3 = xnewo g 9 39 := ⟨_, rfl⟩
  have t3 : xty h3 (s + 126) = some (true, 9, none) := by rw [hh3, xty_newo, if_pos s2.symm]
  have s3 : xsz h3 = s + 126 + 1 := by rw [hh3, xsz_newo, s2]
  have f3 : ∀ f, xfl h3 (s + 126) f = 0 := fun f => by rw [hh3, xfl_newo, if_pos s2.symm]
  have l3 : xsl h3 = xsl g + 39 := by rw [hh3, xsl_newo]; rfl
  have p3 : XFr (fun _ _ => False) (fun _ => False) g h3 := by rw [hh3]; exact (XFr.refl g).newo
  refine Wp.vc 400 [] rfl ?_
  rw [← hh3, s2]
  refine Wp.callR (j := 0) rfl (Nat.le_of_ble_eq_true rfl) ⟨true, t3⟩ (m_init (d := d + 112) t3 s3 f3) (fun v h4 q => ?_)
  obtain ⟨rfl, p4, s4, l4, ML, f68, f0⟩ := q
  have s4 : xsz h4 = s + 142 := by omega
  obtain ⟨h5, hh5⟩ : ∃ h5, h5 = xnewa h4 3 1 := ⟨_, rfl⟩
  have t5 : xty h5 (s + 142) = some (true, 3, some 1) := by rw [hh5, xty_newa, if_pos s4.symm]
  have s5 : xsz h5 = s + 143 := by rw [hh5, xsz_newa, s4]; omega
  have l5 : xsl h5 = xsl h4 + 1 := by rw [hh5, xsl_newa]
  have p5 : XFr (fun _ _ => False) (fun _ => False) h4 h5 := by rw [hh5]; exact (XFr.refl h4).newa
  -- from g on
  have pg : XFr (fun z _ => z = s + 126) (fun _ => False) g h5 := ((p3.mono (fun _ _ _ w => w.elim) (fun _ _ w => w)).trans (p4.mono (W' := fun z _ => z = s + 126) (A' := fun _ => False) (fun _ _ _ w => w) (fun _ _ w => w)) (fun _ _ _ w => w) (fun _ _ w => w)).trans p5 (fun _ _ _ w => w.elim) (fun _ _ w => w)
  have ph : XFr (fun _ _ => False) (fun _ => False) h h5 := (p1.trans p2 (fun z f hz w => by have := w.1; omega) (fun z hz w => by omega)).trans pg (fun z f hz w => by omega) (fun _ _ w => w)
  have XL5 : XLay h5 s := XL.keep pg (fun z f z0 z1 _ w => by omega) (fun w => w) (fun w => w)
  have g5 : ∀ f, xfl h5 s f = xfl g s f := fun f => pg.2.2.2.1 s f (by omega) (fun w => by omega)
  have R : Rx h5 (s + 143) s S0_ := by
    refine ⟨⟨hz, by omega, by omega⟩, XL5, ⟨(g5 1).trans (fg 1 (by decide)), fun j hj => absurd hj (Nat.not_lt_zero _)⟩, ⟨(g5 4).trans (fg 4 (by decide)), fun w => absurd w (by decide), (g5 5).trans (fg 5 (by decide))⟩, ⟨(g5 7).trans (fg 7 (by decide)), (g5 8).trans (fg 8 (by decide))⟩, 0, ⟨by decide, by decide, fun k k0 k1 => (pg.2.2.2.2 _ _ (by omega) (fun w => w)).trans (r47 k k0 k1)⟩, ?_⟩
    exact (g5 3).trans (fg 3 (by decide))
  have ML5 : ModelL h5 (s + 126) := ML.keep p5 (by omega) (fun f hf w => w)
  have m5 : ∀ f, xfin f = false → f ≠ 68 → xfl h5 (s + 126) f = 0 := fun f a b => (p5.2.2.2.1 _ _ (by omega) (fun w => w)).trans (f0 f a b)
  have M : Rm h5 (s + 143) (s + 126) S0_ := by
    refine ⟨⟨by omega, by omega, by omega⟩, ML5, ⟨m5 72 rfl (by decide), fun j hj => absurd hj (Nat.not_lt_zero _)⟩, ⟨m5 67 rfl (by decide), (p5.2.2.2.1 _ _ (by omega) (fun w => w)).trans f68, m5 78 rfl (by decide)⟩, ⟨m5 85 rfl (by decide), m5 84 rfl (by decide)⟩, ?_⟩
    exact m5 69 rfl (by decide)
  have O : SOK 0 S0_ := ⟨(fun T e => by cases e), ⟨Nat.zero_le _, Nat.zero_le _⟩, Nat.zero_le _, fun _ => rfl, fun _ => ⟨rfl, rfl⟩, by decide, by decide⟩
  have I : LawI h s scr L 0 xs S0_ h5 := ⟨⟨R, M, O⟩, ⟨C.keep ph (by omega) (fun _ _ _ w => w) (fun _ _ w => w), (ph.2.2.1 0 (by omega)).trans n0, t5⟩, ⟨hs.1, hs.2, (ph.2.2.1 scr (by omega)).trans ts, fun j hj => ⟨(ph.2.2.2.2 _ _ (by omega) (fun w => w)).trans (hx j hj).1, (hx j hj).2⟩⟩, by omega, by omega⟩
  have a := law_loop (d := d) hL ((L.toNat) + 1) 0 0 S0_ h5 none none I (by decide) (by omega)
  refine Wp.vc 400 [23] rfl ?_
  rw [← hh5, s4]
  exact ⟨⟨by decide, by decide⟩, a⟩
