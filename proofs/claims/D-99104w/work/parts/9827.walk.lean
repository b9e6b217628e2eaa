/-! WALKS, 66: WrongRoom's reader: next -/
set_option maxRecDepth 100000
set_option maxHeartbeats 4000000
/-- the constant words lie below b -/
def CstOK (h : XH) (b : Int) : Prop := ∀ k : Nat, k < 41 → StrV h (xcs h k) (cw k) ∧ (1 ≤ xcs h k ∧ xcs h k < b) ∧ 1 ≤ xfl h (xcs h k) 160 ∧ xfl h (xcs h k) 160 < b
theorem CstOK.keep {W : Int → Nat → Prop} {A : Int → Prop} {h g : XH} {b : Int} (p : XFr W A h g) (C : CstOK h b) (hb : b ≤ xsz h) (hW : ∀ z f, z < b → ¬ W z f) (hA : ∀ z, z < b → ¬ A z) : CstOK g b := by
  intro k hk
  obtain ⟨⟨⟨r, t⟩, c1, l, ⟨r2, t2⟩, by_⟩, b1, b2⟩ := C k hk
  rw [p.1]
  have f160 := p.2.2.2.1 (xcs h k) 160 (by omega) (hW _ _ b1.2)
  refine ⟨⟨⟨r, (p.2.2.1 _ (by omega)).trans t⟩, (p.2.2.2.1 _ 161 (by omega) (hW _ _ b1.2)).trans c1, l, ⟨r2, ?_⟩, fun j hj => ?_⟩, b1, ?_⟩
  · rw [f160]
    exact (p.2.2.1 _ (by omega)).trans t2
  · rw [f160]
    exact (p.2.2.2.2 _ _ (by omega) (hA _ b2.2)).trans (by_ j hj)
  · rw [f160]
    exact b2
/-- what a reading keeps -/
def XC (s z0 : Int) (tp : List Int) (n : Int) (h : XH) : Prop := (1 ≤ s ∧ s + 126 ≤ z0 ∧ z0 ≤ xsz h) ∧ ReaderL h (s + 2) (s + 1) ∧ (xty h (s + 1) = some (true, 1, some 1100) ∧ ∀ j : Nat, (j : Int) < n → xar h (s + 1) (j : Int) = tp.getD j 0) ∧ (0 ≤ n ∧ n ≤ 1100) ∧ CstOK h s ∧ xfl h (s + 2) 24 = n
abbrev WL (s z0 : Int) : Int → Nat → Prop := fun z f => (z = s + 2 ∧ 25 ≤ f ∧ f ≤ 29) ∨ (z = s + 3 ∧ (f = 38 ∨ f = 39)) ∨ (z0 ≤ z ∧ (f = 162 ∨ f = 163))
abbrev AL (s : Int) : Int → Prop := fun z => z = s + 4
def FrL (s z0 : Int) (h g : XH) : Prop := XFr (WL s z0) (AL s) h g
theorem FrL.refl {s z0 : Int} (h : XH) : FrL s z0 h h := XFr.refl h
theorem FrL.trans {s z0 : Int} {h g k : XH} (p : FrL s z0 h g) (q : FrL s z0 g k) : FrL s z0 h k := XFr.trans p q (fun _ _ _ w => w) (fun _ _ w => w)
theorem FrL.putf {s z0 : Int} {h g : XH} {f : Nat} {v : Int} (p : FrL s z0 h g) (hf : 25 ≤ f ∧ f ≤ 29) : FrL s z0 h (xputf g (s + 2) f v) := XFr.putf p (Or.inr (Or.inl ⟨rfl, hf⟩))
theorem XC.keepW {W : Int → Nat → Prop} {A : Int → Prop} {s z0 : Int} {tp : List Int} {n : Int} {h g : XH} (p : XFr W A h g) (C : XC s z0 tp n h) (hW : ∀ z f, z < z0 → W z f → (z = s + 2 ∧ 25 ≤ f) ∨ (z = s + 3 ∧ (f = 38 ∨ f = 39))) (hA : ∀ z, z < z0 → A z → z = s + 4) : XC s z0 tp n g := by
  obtain ⟨⟨b0, b1, b2⟩, ⟨r1, r2, r3, r4, r5, r6⟩, ⟨t1, t2⟩, n0, C, f24⟩ := C
  have ty : ∀ c : Int, c ≤ 4 → xty g (s + c) = xty h (s + c) := fun c hc => p.2.2.1 _ (by omega)
  have fl : ∀ f : Nat, f < 25 → xfl g (s + 2) f = xfl h (s + 2) f := fun f hf => p.2.2.2.1 _ f (by omega) (fun w => by
    rcases hW _ _ (by omega) w with q | q <;> omega)
  have ar : ∀ i, xar g (s + 1) i = xar h (s + 1) i := fun i => p.2.2.2.2 _ i (by omega) (fun w => by have := hA _ (by omega) w; omega)
  refine ⟨⟨b0, b1, by have := p.2.1; omega⟩, ⟨(ty 2 (by decide)).trans r1, ?_, ?_, (fl 21 (by decide)).trans r4, (fl 23 (by decide)).trans r5, (fl 22 (by decide)).trans r6⟩, ⟨(ty 1 (by decide)).trans t1, fun j hj => (ar _).trans (t2 j hj)⟩, n0, C.keep p (by omega) (fun z f hz w => by
    rcases hW _ _ (by omega) w with q | q <;> omega) (fun z hz w => by have := hA _ (by omega) w; omega), (fl 24 (by decide)).trans f24⟩
  · exact (p.2.2.1 _ (by omega)).trans r2
  · exact (p.2.2.1 _ (by omega)).trans r3
theorem XC.keep {s z0 : Int} {tp : List Int} {n : Int} {h g : XH} (p : FrL s z0 h g) (C : XC s z0 tp n h) : XC s z0 tp n g := C.keepW p (fun z f hz w => by
  rcases w with q | q | q
  · exact Or.inl ⟨q.1, q.2.1⟩
  · exact Or.inr q
  · omega) (fun z _ w => w)
theorem x_see {d : Nat} {h : XH} {s z0 n k : Int} {tp : List Int} (C : XC s z0 tp n h) (k0 : 0 ≤ k) : WpM d 76 [.inr (.inr (s + 2)), .inl k] h (XE (some (.inl (sby tp n k))) h) := by
  obtain ⟨-, ⟨r1, -, -, -, -, r6⟩, ⟨t1, t2⟩, n0, -, f24⟩ := C
  refine WpM.of rfl (Wp.vc 400 [] rfl ?_)
  rw [f24, r6]
  refine ⟨isF r1 rfl, fun c => ⟨trivial, ?_⟩, fun c => ?_⟩
  · rw [show sby tp n k = -1 from if_neg (by omega)]
    exact XE.mk
  · have e := t2 k.toNat (by omega)
    rw [Int.toNat_of_nonneg k0] at e
    rw [e, xand255, show sby tp n k = tp.getD k.toNat 0 % 256 from if_pos (by omega)]
    exact ⟨isF r1 rfl, isA t1 k0 (by omega), trivial, rfl, rfl⟩
theorem x_isSmall {d : Nat} {h : XH} {c : Int} : WpM (d + 1) 77 [.inl c] h (XE (some (.inl (if isSm c then 1 else 0))) h) := by
  refine WpM.of rfl (Wp.vc 400 [] rfl ?_)
  refine Wp.callE (j := 0) rfl (Nat.le_of_ble_eq_true rfl) trivial (x_in c 97 122) ?_
  refine Wp.vc 400 [] rfl ?_
  refine ⟨?_, rfl, rfl⟩
  split <;> exact ⟨by decide, by decide⟩
theorem x_isDigit {d : Nat} {h : XH} {c : Int} : WpM (d + 1) 78 [.inl c] h (XE (some (.inl (if isDg c then 1 else 0))) h) := by
  refine WpM.of rfl (Wp.vc 400 [] rfl ?_)
  refine Wp.callE (j := 0) rfl (Nat.le_of_ble_eq_true rfl) trivial (x_in c 48 57) ?_
  refine Wp.vc 400 [] rfl ?_
  refine ⟨?_, rfl, rfl⟩
  split <;> exact ⟨by decide, by decide⟩
/-- a reading between tokens: e bytes are gone over; c things are made -/
def XR0 (s z0 y0 c : Int) (tp : List Int) (n : Int) (h : XH) (e : Int) : Prop := XC s z0 tp n h ∧ xfl h (s + 2) 25 = e ∧ xsz h ≤ z0 + 2 * e + c ∧ xsl h ≤ y0 + 12 * (e + c)
def XTk (s z0 : Int) (h : XH) (l : LTk) : Prop := xfl h (s + 2) 25 = le_ l ∧ xfl h (s + 2) 26 = lk l ∧ xfl h (s + 2) 27 = la l ∧ (lk l = 3 → xfl h (s + 2) 28 = lv l) ∧ (lk l = 2 → StrX h z0 (xfl h (s + 2) 29) (lw l) ∧ HashOK h (xfl h (s + 2) 29) (lw l))
def XRd (s z0 y0 c : Int) (tp : List Int) (n : Int) (h : XH) (l : LTk) : Prop := XR0 s z0 y0 c tp n h (le_ l) ∧ XTk s z0 h l
/-- next() under way: nothing made yet -/
def NX (s z0 : Int) (tp : List Int) (n : Int) (h g : XH) (k e : Int) : Prop := XC s z0 tp n g ∧ FrL s z0 h g ∧ (xsz g = xsz h ∧ xsl g = xsl h) ∧ xfl g (s + 2) 27 = k ∧ xfl g (s + 2) 25 = e
theorem NX.putf {s z0 : Int} {tp : List Int} {n : Int} {h g : XH} {k e v : Int} {f : Nat} (N : NX s z0 tp n h g k e) (hf : f = 26 ∨ f = 28 ∨ f = 29) : NX s z0 tp n h (xputf g (s + 2) f v) k e := by
  obtain ⟨C, p, z, f27, f25⟩ := N
  refine ⟨C.keep (FrL.putf (FrL.refl g) (by omega)), FrL.putf p (by omega), z, ?_, ?_⟩
  · rw [xfl_putf, if_neg (by omega)]
    exact f27
  · rw [xfl_putf, if_neg (by omega)]
    exact f25
theorem NX.pute {s z0 : Int} {tp : List Int} {n : Int} {h g : XH} {k e e' : Int} (N : NX s z0 tp n h g k e) : NX s z0 tp n h (xputf g (s + 2) 25 e') k e' := by
  obtain ⟨C, p, z, f27, f25⟩ := N
  refine ⟨C.keep (FrL.putf (FrL.refl g) (by decide)), FrL.putf p (by decide), z, ?_, ?_⟩
  · rw [xfl_putf, if_neg (by omega)]
    exact f27
  · rw [xfl_putf, if_pos ⟨rfl, rfl⟩]
theorem NX.end_ {s z0 y0 c : Int} {tp : List Int} {n : Int} {h g : XH} {e0 k e kd v : Int} {w : List Int} (R : XR0 s z0 y0 c tp n h e0) (N : NX s z0 tp n h g k e) (he : e0 ≤ e) (h26 : xfl g (s + 2) 26 = kd) (h2 : kd ≠ 2) (h3 : kd = 3 → xfl g (s + 2) 28 = v) : XRd s z0 y0 c tp n g (kd, k, e, w, v) ∧ FrL s z0 h g := by
  obtain ⟨-, -, r1, r2⟩ := R
  obtain ⟨C, p, ⟨z1, z2⟩, f27, f25⟩ := N
  exact ⟨⟨⟨C, f25, by show _ ≤ z0 + 2 * e + c; omega, by show _ ≤ y0 + 12 * (e + c); omega⟩, f25, h26, f27, h3, fun q => absurd q h2⟩, p⟩
theorem xty_r {s z0 n : Int} {tp : List Int} {h : XH} (C : XC s z0 tp n h) : xty h (s + 2) = some (true, 1, none) := C.2.1.1
theorem x_next {d : Nat} {h : XH} {s z0 y0 c n e : Int} {tp : List Int} (R : XR0 s z0 y0 c tp n h e) (e0 : 0 ≤ e ∧ e ≤ n) : WpM (d + 4) 75 [.inr (.inr (s + 2))] h (XRet fun v h' => v = none ∧ XRd s z0 y0 c tp n h' (nxt tp n e) ∧ FrL s z0 h h') := by
  obtain ⟨b1, b2, b3, b4⟩ := runT_spec (tp := tp) (n := n) (p := pBl) (by decide) e
  obtain ⟨s1, s2, s3, s4⟩ := runT_spec (tp := tp) (n := n) (p := pSm) (by decide) (runT tp n pBl e)
  obtain ⟨d1, d2, d3, d4⟩ := runT_spec (tp := tp) (n := n) (p := pDg) (by decide) (runT tp n pBl e)
  have kn : runT tp n pBl e ≤ n := by omega
  have n1100 := R.1.2.2.2.1.2
  have fin : ∀ g, (XRd s z0 y0 c tp n g (nxt tp n e) ∧ FrL s z0 h g) → ∀ ls, Wp (d + 4) 75 299 ls [] g (XRet fun v h' => v = none ∧ XRd s z0 y0 c tp n h' (nxt tp n e) ∧ FrL s z0 h h') := by
    intro g q ls
    refine Wp.vc 400 [] rfl ?_
    exact ⟨trivial, _, rfl, rfl, q⟩
  have nx : nxt tp n e = nxt tp n e := rfl
  unfold nxt at fin
  dsimp only at fin
  have hQ : (XRet fun v h' => v = none ∧ XRd s z0 y0 c tp n h' (nxt tp n e) ∧ FrL s z0 h h') = (XRet fun v h' => v = none ∧ XRd s z0 y0 c tp n h' (nxt tp n e) ∧ FrL s z0 h h') := rfl
  obtain ⟨k, hk⟩ : ∃ k, k = runT tp n pBl e := ⟨_, rfl⟩
  obtain ⟨Q, hq⟩ : ∃ Q, Q = (XRet fun v h' => v = none ∧ XRd s z0 y0 c tp n h' (nxt tp n e) ∧ FrL s z0 h h') := ⟨_, rfl⟩
  have hq2 := hq
  unfold nxt at hq2
  dsimp only at hq2
  rw [← hq2] at fin
  rw [← hk] at b1 b2 b3 b4 s1 s2 s3 s4 d1 d2 d3 d4 kn fin
  rw [← hq]
  clear hq hq2 hQ nx
  have k0 : 0 ≤ k := by omega
  -- a word
  have wrd : ∀ g, NX s z0 tp n h g k (k + 1) → isSm (sby tp n k) → Wp (d + 4) 75 64 [some (.inr (.inr (s + 2))), some (.inl k), some (.inl (sby tp n k))] [] g Q := by
    intro g N sm
    have cne : sby tp n k ≠ -1 := fun q => by rw [q] at sm; exact absurd sm (by decide)
    rw [if_neg cne, if_pos sm] at fin
    obtain ⟨e', he⟩ : ∃ e', e' = runT tp n pSm k := ⟨_, rfl⟩
    rw [← he] at s1 s2 s3 s4 fin
    have e'n : e' ≤ n := by
      have := sby_lt cne
      omega
    have key : ∀ (x : Int) (g2 : XH), x ≤ e' → (k ≤ x ∧ NX s z0 tp n h g2 k x ∧ ∀ j : Nat, (j : Int) < x - k → j < 8 → xar g2 (s + 4) (j : Int) = sby tp n (k + j)) → Wp (d + 4) 75 69 [some (.inr (.inr (s + 2))), some (.inl k), some (.inl (sby tp n k))] [] g2 Q := by
      refine loopUp (G := fun _ g2 => Wp (d + 4) 75 69 [some (.inr (.inr (s + 2))), some (.inl k), some (.inl (sby tp n k))] [] g2 Q) e' ?_ ?_
      · rintro x g2 ⟨x0, N2, l2⟩ hx ih
        have tr := xty_r N2.1
        have f25 := N2.2.2.2.2
        have f23 : xfl g2 (s + 2) 23 = s + 4 := N2.1.2.1.2.2.2.2.1.trans (by omega)
        have t4 : xty g2 (s + 4) = some (true, 2, some 8) := by
          have := N2.1.2.1.2.2.1
          rwa [show s + 2 + 2 = s + 4 by omega] at this
        have p := s2 x x0 hx
        have p : isSm (sby tp n x) := by simpa using p
        have at114 : ∀ g3, NX s z0 tp n h g3 k x → (∀ j : Nat, (j : Int) < x + 1 - k → j < 8 → xar g3 (s + 4) (j : Int) = sby tp n (k + j)) → Wp (d + 4) 75 114 [some (.inr (.inr (s + 2))), some (.inl k), some (.inl (sby tp n k))] [] g3 Q := by
          intro g3 N3 l3
          have nx := ih _ ⟨by omega, N3.pute (e' := x + 1), l3⟩
          have f25 := N3.2.2.2.2
          refine Wp.vc 400 [69] rfl ?_
          rw [f25]
          exact ⟨isF (xty_r N3.1) rfl, ⟨by omega, by omega⟩, isW (xty_r N3.1) rfl, nx⟩
        refine Wp.vc 400 [69, 114] rfl ?_
        rw [f25]
        refine ⟨isF tr rfl, ?_⟩
        refine Wp.callE (j := 0) rfl (Nat.le_of_ble_eq_true rfl) ⟨true, tr⟩ (x_see N2.1 (by omega)) ?_
        refine Wp.vc 400 [69, 114] rfl ?_
        refine Wp.callE (j := 0) rfl (Nat.le_of_ble_eq_true rfl) trivial x_isSmall ?_
        rw [if_pos p]
        refine Wp.vc 400 [69, 114] rfl ?_
        rw [f25, f23]
        refine ⟨fun q => absurd q (by decide), fun _ => ⟨isF tr rfl, ⟨by omega, by omega⟩, fun q => ?_, fun q => ⟨isF tr rfl, isF tr rfl, ⟨by omega, by omega⟩, isF tr rfl, ?_⟩⟩⟩
        · exact at114 g2 N2 (fun j hj j8 => l2 j (by omega) j8)
        · refine Wp.callE (j := 0) rfl (Nat.le_of_ble_eq_true rfl) ⟨true, tr⟩ (x_see N2.1 (by omega)) ?_
          have g3 : NX s z0 tp n h (xputa g2 (s + 4) (x - k) (sby tp n x)) k x := ⟨N2.1.keep (XFr.puta (XFr.refl g2) (Or.inr rfl)), XFr.puta N2.2.1 (Or.inr rfl), N2.2.2.1, N2.2.2.2.1, N2.2.2.2.2⟩
          have nx := at114 _ g3 (fun j hj j8 => by
            rw [xar_puta]
            by_cases q : (j : Int) = x - k
            · rw [if_pos ⟨rfl, q⟩, show k + (j : Int) = x by omega]
            · rw [if_neg (by omega)]
              exact l2 j (by omega) j8)
          refine Wp.vc 400 [69, 114] rfl ?_
          exact ⟨⟨by omega, by omega⟩, ⟨isB t4 (by omega) (by omega), by omega, by omega⟩, nx⟩
      · rintro g2 ⟨x0, N2, l2⟩
        have tr := xty_r N2.1
        have f25 := N2.2.2.2.2
        have p : ¬ isSm (sby tp n e') := by simpa using s3
        refine Wp.vc 400 [83, 144] rfl ?_
        rw [f25]
        refine ⟨isF tr rfl, ?_⟩
        refine Wp.callE (j := 0) rfl (Nat.le_of_ble_eq_true rfl) ⟨true, tr⟩ (x_see N2.1 (by omega)) ?_
        refine Wp.vc 400 [83, 144] rfl ?_
        refine Wp.callE (j := 0) rfl (Nat.le_of_ble_eq_true rfl) trivial x_isSmall ?_
        rw [if_neg p]
        refine Wp.vc 400 [83, 144] rfl ?_
        rw [f25]
        refine ⟨fun _ => ⟨isF tr rfl, ⟨by omega, by omega⟩, fun q => ?_, fun q => ?_⟩, fun q => absurd rfl q⟩
        · rw [if_neg (by omega)] at fin
          have wl : ((seg tp n k e').length : Int) = e' - k := by rw [seg_len]; omega
          have lt1 : k < e' := by
            by_cases z : e' = k
            · rw [z] at p
              exact absurd sm p
            · omega
          have e23 : xfl g2 (s + 2) 23 = s + 4 := N2.1.2.1.2.2.2.2.1.trans (by omega)
          have t4 : xty g2 (s + 4) = some (true, 2, some 8) := by
            have := N2.1.2.1.2.2.1
            rwa [show s + 2 + 2 = s + 4 by omega] at this
          have lg := N2.1.1.2.2
          have lg2 := N2.1.1.2.1
          obtain ⟨g3, hg3⟩ : ∃ g3, g3 = xnewo (xputf g2 (s + 2) 26 2) 16 4 := ⟨_, rfl⟩
          have ta : xty g3 (xsz g2) = some (true, 16, none) := by rw [hg3, xty_newo, if_pos (show xsz g2 = xsz (xputf g2 (s + 2) 26 2) from rfl)]
          have tl : xty g3 (s + 4) = some (true, 2, some 8) := by rw [hg3, xty_newo, if_neg (by show ¬ s + 4 = xsz g2; omega)]; exact t4
          have sz3 : xsz g3 = xsz g2 + 1 := by rw [hg3, xsz_newo]; rfl
          have sl3 : xsl g3 = xsl g2 + 4 := by rw [hg3, xsl_newo]; rfl
          have fl3 : ∀ f, f ≠ 26 → xfl g3 (s + 2) f = xfl g2 (s + 2) f := fun f hf => by rw [hg3, xfl_newo, if_neg (by show ¬ s + 2 = xsz g2; omega), xfl_putf, if_neg (by omega)]
          have f26 : xfl g3 (s + 2) 26 = 2 := by rw [hg3, xfl_newo, if_neg (by show ¬ s + 2 = xsz g2; omega), xfl_putf, if_pos ⟨rfl, rfl⟩]
          have h0 : ∀ f, xfl g3 (xsz g2) f = 0 := fun f => by rw [hg3, xfl_newo, if_pos (show xsz g2 = xsz (xputf g2 (s + 2) 26 2) from rfl)]
          have tr3 : xty g3 (s + 2) = some (true, 1, none) := by rw [hg3, xty_newo, if_neg (by show ¬ s + 2 = xsz g2; omega)]; exact tr
          have ns := x_newString (d := d) (w := seg tp n k e') ta tl ⟨by omega, by omega⟩ ⟨by omega, by omega⟩ (fun c hc => by
            obtain ⟨j, j0, j1, rfl⟩ := seg_mem hc
            simpa using s2 j j0 j1) (fun j hj => by
            have hj' : (j : Int) < e' - k := by omega
            rw [hg3, xar_newo, xar_putf, l2 j hj' (by omega), seg_get hj'])
          rw [wl] at ns
          have fr3 : FrL s z0 h g3 := by rw [hg3]; exact XFr.newo (N2.putf (v := 2) (Or.inl rfl)).2.1
          have z2 := N2.2.2.1
          have C3 := R.1.keep fr3
          refine Wp.vc 400 [179] rfl ?_
          show xIsW g2 (s + 2) 26 ∧ xIsF (xputf g2 (s + 2) 26 2) (s + 2) 26 ∧ _
          rw [xfl_putf, if_pos ⟨rfl, rfl⟩]
          rw [← hg3, show xsz (xputf g2 (s + 2) 26 2) = xsz g2 from rfl, fl3 23 (by decide), fl3 25 (by decide), e23, f25]
          refine ⟨isW tr rfl, isF tr rfl, fun w => absurd rfl w, fun _ => ⟨isF tr3 rfl, isF tr3 rfl, ⟨by omega, by omega⟩, ?_⟩⟩
          refine Wp.callR (j := 0) rfl (Nat.le_of_ble_eq_true rfl) ⟨true, ta⟩ ns (fun v g4 q4 => ?_)
          obtain ⟨rfl, p4, z41, z42, v160, v161, v162, v163, tv, bv⟩ := q4
          have tr4 : xty g4 (s + 2) = some (true, 1, none) := (p4.2.2.1 _ (by omega)).trans tr3
          have fl4 : ∀ f, xfl g4 (s + 2) f = xfl g3 (s + 2) f := fun f => p4.2.2.2.1 _ f (by omega) (fun w => by have : s + 2 = xsz g2 := w; omega)
          have fr5 : FrL s z0 h (xputf g4 (s + 2) 29 (xsz g2)) := FrL.putf (XFr.sub fr3 p4 (by omega)) (by decide)
          have f5 : ∀ f, f ≠ 29 → xfl (xputf g4 (s + 2) 29 (xsz g2)) (s + 2) f = xfl g3 (s + 2) f := fun f hf => by rw [xfl_putf, if_neg (fun w => hf w.2)]; exact fl4 f
          have f29 : xfl (xputf g4 (s + 2) 29 (xsz g2)) (s + 2) 29 = xsz g2 := by rw [xfl_putf, if_pos ⟨rfl, rfl⟩]
          have fa : ∀ f, xfl (xputf g4 (s + 2) 29 (xsz g2)) (xsz g2) f = xfl g4 (xsz g2) f := fun f => by rw [xfl_putf, if_neg (by omega)]
          have r2 := R.2.2
          have fi := fin _ ⟨⟨⟨R.1.keep fr5, (f5 25 (by decide)).trans ((fl3 25 (by decide)).trans f25), by show xsz g4 ≤ z0 + 2 * e' + c; omega, by show xsl g4 ≤ y0 + 12 * (e' + c); omega⟩, (f5 25 (by decide)).trans ((fl3 25 (by decide)).trans f25), (f5 26 (by decide)).trans f26, (f5 27 (by decide)).trans ((fl3 27 (by decide)).trans N2.2.2.2.1), fun w => absurd (show (2 : Int) = 3 from w) (by decide), fun _ => ?_⟩, fr5⟩
          · refine Wp.vc 400 [299] rfl ?_
            exact ⟨isW tr4 rfl, fi _⟩
          · rw [f29]
            refine ⟨⟨⟨by omega, by show xsz g2 < xsz g4; omega, (p4.2.2.1 _ (by omega)).trans ta⟩, ?_, ?_, fun j hj => ?_⟩, Or.inl ⟨?_, Or.inl ?_⟩⟩
            · rw [fa, v160]
              refine ⟨by omega, by show xsz g3 < xsz g4; omega, ?_⟩
              rw [← wl] at tv
              exact tv
            · rw [fa]
              exact v161
            · rw [fa, v160]
              exact bv j hj
            · rw [fa, v162]
              exact h0 _
            · rw [fa, v163]
              exact h0 _
        · rw [if_pos (by omega)] at fin
          have N3 := N2.putf (v := 1) (Or.inl rfl)
          have N4 := N3.putf (v := xcs (xputf g2 (s + 2) 26 1) 0) (Or.inr (Or.inr rfl))
          have f26 : xfl (xputf (xputf g2 (s + 2) 26 1) (s + 2) 29 (xcs (xputf g2 (s + 2) 26 1) 0)) (s + 2) 26 = 1 := by
            rw [xfl_putf, if_neg (fun w => absurd w.2 (by decide)), xfl_putf, if_pos ⟨rfl, rfl⟩]
          have fi := fin _ (N4.end_ R (by omega) f26 (by decide) (fun w => absurd w (by decide)))
          refine Wp.vc 400 [299] rfl ?_
          show xIsW g2 (s + 2) 26 ∧ xIsF (xputf g2 (s + 2) 26 1) (s + 2) 26 ∧ _
          rw [xfl_putf, if_pos ⟨rfl, rfl⟩]
          exact ⟨isW tr rfl, isF tr rfl, fun _ => ⟨isW tr rfl, fi _⟩, fun w => absurd w (by decide)⟩
    refine Wp.vc 400 [69] rfl ?_
    have k1 := key k _ (by omega) ⟨Int.le_refl _, N.pute, fun j hj j8 => by omega⟩
    exact ⟨isW (xty_r N.1) rfl, k1⟩
  -- a whole
  have whl : ∀ g, NX s z0 tp n h g k (k + 1) → ¬ isSm (sby tp n k) → isDg (sby tp n k) → Wp (d + 4) 75 192 [some (.inr (.inr (s + 2))), some (.inl k), some (.inl (sby tp n k))] [] g Q := by
    intro g N nsm dg
    have cne : sby tp n k ≠ -1 := fun q => by rw [q] at dg; exact absurd dg (by decide)
    rw [if_neg cne, if_neg nsm, if_pos dg] at fin
    obtain ⟨e', he⟩ : ∃ e', e' = runT tp n pDg k := ⟨_, rfl⟩
    rw [← he] at d1 d2 d3 d4 fin
    have e'n : e' ≤ n := by
      have := sby_lt cne
      omega
    have vrg : ∀ x, x ≤ e' → x ≤ k + 3 → 0 ≤ (seg tp n k x).foldl num1 0 ∧ (seg tp n k x).foldl num1 0 ≤ 999 := by
      intro x hx hx3
      have r := num_rg (seg tp n k x) 0 (fun c hc => by
        obtain ⟨j, j0, j1, rfl⟩ := seg_mem hc
        simpa using d2 j j0 (by omega)) (Int.le_refl _)
      rw [show ((0 : Int) + 1) * 10 ^ (seg tp n k x).length = 10 ^ (seg tp n k x).length from Int.one_mul _] at r
      have p : (10 : Nat) ^ (seg tp n k x).length ≤ 10 ^ 3 := Nat.pow_le_pow_right (by decide) (by rw [seg_len]; omega)
      have e1 : (10 : Int) ^ (seg tp n k x).length = ((10 ^ (seg tp n k x).length : Nat) : Int) := by rw [Int.natCast_pow]; rfl
      have e3 : (10 : Nat) ^ 3 = 1000 := rfl
      omega
    have key : ∀ (x : Int) (g2 : XH), x ≤ e' → (k ≤ x ∧ NX s z0 tp n h g2 k x ∧ xfl g2 (s + 2) 28 = (seg tp n k (min x (k + 3))).foldl num1 0) → Wp (d + 4) 75 202 [some (.inr (.inr (s + 2))), some (.inl k), some (.inl (sby tp n k))] [] g2 Q := by
      refine loopUp (G := fun _ g2 => Wp (d + 4) 75 202 [some (.inr (.inr (s + 2))), some (.inl k), some (.inl (sby tp n k))] [] g2 Q) e' ?_ ?_
      · rintro x g2 ⟨x0, N2, f28⟩ hx ih
        have tr := xty_r N2.1
        have f25 := N2.2.2.2.2
        have p := d2 x x0 hx
        have p : isDg (sby tp n x) := by simpa using p
        have at249 : ∀ g3, NX s z0 tp n h g3 k x → xfl g3 (s + 2) 28 = (seg tp n k (min (x + 1) (k + 3))).foldl num1 0 → Wp (d + 4) 75 249 [some (.inr (.inr (s + 2))), some (.inl k), some (.inl (sby tp n k))] [] g3 Q := by
          intro g3 N3 l3
          have nx := ih _ ⟨by omega, N3.pute (e' := x + 1), by rw [xfl_putf, if_neg (fun w => absurd w.2 (by decide))]; exact l3⟩
          have f25 := N3.2.2.2.2
          refine Wp.vc 400 [202] rfl ?_
          rw [f25]
          exact ⟨isF (xty_r N3.1) rfl, ⟨by omega, by omega⟩, isW (xty_r N3.1) rfl, nx⟩
        refine Wp.vc 400 [202, 249] rfl ?_
        rw [f25]
        refine ⟨isF tr rfl, ?_⟩
        refine Wp.callE (j := 0) rfl (Nat.le_of_ble_eq_true rfl) ⟨true, tr⟩ (x_see N2.1 (by omega)) ?_
        refine Wp.vc 400 [202, 249] rfl ?_
        refine Wp.callE (j := 0) rfl (Nat.le_of_ble_eq_true rfl) trivial x_isDigit ?_
        rw [if_pos p]
        refine Wp.vc 400 [202, 249] rfl ?_
        rw [f25]
        refine ⟨fun q => absurd q (by decide), fun _ => ⟨isF tr rfl, ⟨by omega, by omega⟩, fun q => ?_, fun q => ⟨isF tr rfl, ?_⟩⟩⟩
        · refine at249 g2 N2 ?_
          rw [f28, show min x (k + 3) = k + 3 by omega, show min (x + 1) (k + 3) = k + 3 by omega]
        · have v := vrg x (by omega) (by omega)
          rw [show min x (k + 3) = x by omega] at f28
          have nx := at249 _ (N2.putf (v := 10 * xfl g2 (s + 2) 28 + sby tp n x - 48) (Or.inr (Or.inl rfl))) (by
            rw [xfl_putf, if_pos ⟨rfl, rfl⟩, f28, show min (x + 1) (k + 3) = x + 1 by omega, seg_succ x0, List.foldl_append]
            rfl)
          rw [f28] at nx ⊢
          refine ⟨⟨by omega, by omega⟩, isF tr rfl, ?_⟩
          refine Wp.callE (j := 0) rfl (Nat.le_of_ble_eq_true rfl) ⟨true, tr⟩ (x_see N2.1 (by omega)) ?_
          refine Wp.vc 400 [202, 249] rfl ?_
          exact ⟨⟨by omega, by omega⟩, ⟨by omega, by omega⟩, isW tr rfl, nx⟩
      · rintro g2 ⟨x0, N2, f28⟩
        have tr := xty_r N2.1
        have f25 := N2.2.2.2.2
        have p : ¬ isDg (sby tp n e') := by simpa using d3
        refine Wp.vc 400 [216, 278] rfl ?_
        rw [f25]
        refine ⟨isF tr rfl, ?_⟩
        refine Wp.callE (j := 0) rfl (Nat.le_of_ble_eq_true rfl) ⟨true, tr⟩ (x_see N2.1 (by omega)) ?_
        refine Wp.vc 400 [216, 278] rfl ?_
        refine Wp.callE (j := 0) rfl (Nat.le_of_ble_eq_true rfl) trivial x_isDigit ?_
        rw [if_neg p]
        refine Wp.vc 400 [216, 278] rfl ?_
        rw [f25]
        refine ⟨fun _ => ⟨isF tr rfl, ⟨by omega, by omega⟩, fun q => ?_, fun q => ?_⟩, fun q => absurd rfl q⟩
        · rw [if_neg (by omega)] at fin
          rw [show min e' (k + 3) = e' by omega] at f28
          have N3 := N2.putf (v := 3) (Or.inl rfl)
          have fi := fin _ (N3.end_ R (by omega) (kd := 3) (by rw [xfl_putf, if_pos ⟨rfl, rfl⟩]) (by decide) (fun _ => by rw [xfl_putf, if_neg (fun w => absurd w.2 (by decide))]; exact f28))
          refine Wp.vc 400 [299] rfl ?_
          exact ⟨isW tr rfl, fi _⟩
        · rw [if_pos (by omega)] at fin
          have N3 := N2.putf (v := 1) (Or.inl rfl)
          have fi := fin _ (N3.end_ R (by omega) (kd := 1) (by rw [xfl_putf, if_pos ⟨rfl, rfl⟩]) (by decide) (fun w => absurd w (by decide)))
          refine Wp.vc 400 [299] rfl ?_
          exact ⟨isW tr rfl, fi _⟩
    have N3 := (N.putf (v := 0) (Or.inr (Or.inl rfl))).pute (e' := k)
    have k1 := key k _ (by omega) ⟨Int.le_refl _, N3, by
      rw [xfl_putf, if_neg (fun w => absurd w.2 (by decide)), xfl_putf, if_pos ⟨rfl, rfl⟩, show min k (k + 3) = k by omega, seg_nil]
      rfl⟩
    have tr := xty_r N.1
    refine Wp.vc 400 [202] rfl ?_
    exact ⟨isW tr rfl, isW tr rfl, k1⟩
  -- behind the blanks
  have at21 : ∀ g l2, XC s z0 tp n g → FrL s z0 h g → xsz g = xsz h → xsl g = xsl h → Wp (d + 4) 75 21 [some (.inr (.inr (s + 2))), some (.inl k), l2] [] g Q := by
    intro g l2 C p z1 z2
    have N : NX s z0 tp n h (xputf (xputf g (s + 2) 27 k) (s + 2) 25 (k + 1)) k (k + 1) := by
      refine ⟨C.keep (FrL.putf (FrL.putf (FrL.refl g) (by decide)) (by decide)), FrL.putf (FrL.putf p (by decide)) (by decide), ⟨z1, z2⟩, ?_, ?_⟩
      · rw [xfl_putf, if_neg (fun w => absurd w.2 (by decide)), xfl_putf, if_pos ⟨rfl, rfl⟩]
      · rw [xfl_putf, if_pos ⟨rfl, rfl⟩]
    have tr := xty_r C
    have tr2 := xty_r N.1
    refine Wp.vc 400 [64, 192, 299] rfl ?_
    refine ⟨isW tr rfl, ⟨by omega, by omega⟩, isW tr rfl, ?_⟩
    obtain ⟨g2, hg2⟩ : ∃ g2, g2 = xputf (xputf g (s + 2) 27 k) (s + 2) 25 (k + 1) := ⟨_, rfl⟩
    rw [← hg2] at N tr2 ⊢
    clear hg2
    refine Wp.callE (j := 0) rfl (Nat.le_of_ble_eq_true rfl) ⟨true, tr2⟩ (x_see N.1 k0) ?_
    refine Wp.vc 400 [64, 192, 299] rfl ?_
    refine ⟨fun c0 => ?_, fun c0 => ?_⟩
    · refine Wp.callE (j := 0) rfl (Nat.le_of_ble_eq_true rfl) trivial x_isSmall ?_
      by_cases sm : isSm (sby tp n k)
      · rw [if_pos sm]
        refine Wp.vc 400 [64, 192, 299] rfl ?_
        exact ⟨fun q => absurd q (by decide), fun _ => wrd g2 N sm⟩
      · rw [if_neg sm]
        refine Wp.vc 400 [64, 192, 299] rfl ?_
        refine ⟨fun _ => ?_, fun q => absurd rfl q⟩
        refine Wp.callE (j := 0) rfl (Nat.le_of_ble_eq_true rfl) trivial x_isDigit ?_
        by_cases dg : isDg (sby tp n k)
        · rw [if_pos dg]
          refine Wp.vc 400 [64, 192, 299] rfl ?_
          exact ⟨fun q => absurd q (by decide), fun _ => whl g2 N sm dg⟩
        · rw [if_neg dg]
          rw [if_neg c0, if_neg sm, if_neg dg] at fin
          refine Wp.vc 400 [64, 192, 299] rfl ?_
          refine ⟨fun _ => ⟨fun c9 => ⟨isW tr2 rfl, ?_⟩, fun c9 => ⟨isW tr2 rfl, ?_⟩⟩, fun q => absurd rfl q⟩
          · rw [if_neg c9] at fin
            exact fin _ ((N.putf (v := 1) (Or.inl rfl)).end_ R (by omega) (kd := 1) (by rw [xfl_putf, if_pos ⟨rfl, rfl⟩]) (by decide) (fun w => absurd w (by decide))) _
          · have c9 := Decidable.of_not_not c9
            rw [if_pos c9] at fin
            rw [c9]
            exact fin _ ((N.putf (v := 59) (Or.inl rfl)).end_ R (by omega) (kd := 59) (by rw [xfl_putf, if_pos ⟨rfl, rfl⟩]) (by decide) (fun w => absurd w (by decide))) _
    · have c0 := Decidable.of_not_not c0
      rw [if_pos c0] at fin
      have N3 := (N.putf (v := 0) (Or.inl rfl)).pute (e' := k)
      have fi := fin _ (N3.end_ R (by omega) (kd := 0) (by rw [xfl_putf, if_neg (fun w => absurd w.2 (by decide)), xfl_putf, if_pos ⟨rfl, rfl⟩]) (by decide) (fun w => absurd w (by decide)))
      exact ⟨isW tr2 rfl, isW tr2 rfl, fi _⟩
  -- the blanks
  have key : ∀ (x : Int) (g : XH), x ≤ k → (e ≤ x ∧ g = h) → ∀ l2, Wp (d + 4) 75 5 [some (.inr (.inr (s + 2))), some (.inl x), l2] [] g Q := by
    refine loopUp (G := fun x g => ∀ l2, Wp (d + 4) 75 5 [some (.inr (.inr (s + 2))), some (.inl x), l2] [] g Q) k ?_ ?_
    · rintro x g ⟨x0, rfl⟩ hx ih l2
      have p : sby tp n x = 32 := by simpa using b2 x x0 hx
      have nx := ih g ⟨by omega, rfl⟩ l2
      refine Wp.vc 400 [5, 21] rfl ?_
      refine Wp.callE (j := 0) rfl (Nat.le_of_ble_eq_true rfl) ⟨true, xty_r R.1⟩ (x_see R.1 (by omega)) ?_
      rw [p]
      refine Wp.vc 400 [5, 21] rfl ?_
      exact ⟨fun q => absurd rfl q, fun _ => ⟨⟨by omega, by omega⟩, nx⟩⟩
    · rintro g ⟨x0, rfl⟩ l2
      have p : ¬ sby tp n k = 32 := by simpa using b3
      have a := at21 g l2 R.1 (FrL.refl g) rfl rfl
      refine Wp.vc 400 [15, 21] rfl ?_
      refine Wp.callE (j := 0) rfl (Nat.le_of_ble_eq_true rfl) ⟨true, xty_r R.1⟩ (x_see R.1 (by omega)) ?_
      refine Wp.vc 400 [15, 21] rfl ?_
      exact ⟨fun _ => a, fun q => absurd p q⟩
  rw [← R.2.1] at b1
  have k5 := key (xfl h (s + 2) 25) h b1 ⟨by rw [R.2.1]; exact Int.le_refl _, rfl⟩ none
  refine WpM.of rfl (Wp.vc 400 [5] rfl ?_)
  exact ⟨isF (xty_r R.1) rfl, k5⟩
