/-! WALKS, 82: the model's reader: goesOn -/
set_option maxRecDepth 100000
set_option maxHeartbeats 4000000
theorem CstOK.up {h : XH} {b b' : Int} (hb : b ≤ b') (C : CstOK h b) : CstOK h b' := fun k hk => ⟨(C k hk).1, ⟨(C k hk).2.1.1, by have := (C k hk).2.1.2; omega⟩, (C k hk).2.2.1, by have := (C k hk).2.2.2; omega⟩
def MC (m z0 : Int) (tp : List Int) (n : Int) (h : XH) : Prop := (1 ≤ m ∧ m + 16 ≤ z0 ∧ z0 ≤ xsz h) ∧ xty h m = some (true, 9, none) ∧ (xty h (m + 1) = some (true, 1, some 1100) ∧ xfl h m 71 = m + 1 ∧ ∀ j : Nat, (j : Int) < n → xar h (m + 1) (j : Int) = tp.getD j 0) ∧ (0 ≤ n ∧ n ≤ 1100) ∧ CstOK h m ∧ xfl h m 73 = n
abbrev WM (m : Int) : Int → Nat → Prop := fun z f => z = m ∧ 74 ≤ f ∧ f ≤ 80
def FrM (m : Int) (h g : XH) : Prop := XFr (WM m) (fun _ => False) h g ∧ xsz g = xsz h ∧ xsl g = xsl h
theorem FrM.refl {m : Int} (h : XH) : FrM m h h := ⟨XFr.refl h, rfl, rfl⟩
theorem FrM.trans {m : Int} {h g k : XH} (p : FrM m h g) (q : FrM m g k) : FrM m h k := ⟨p.1.trans q.1 (fun _ _ _ w => w) (fun _ _ w => w), q.2.1.trans p.2.1, q.2.2.trans p.2.2⟩
theorem FrM.putf {m v : Int} {h g : XH} {f : Nat} (p : FrM m h g) (hf : 74 ≤ f ∧ f ≤ 80) : FrM m h (xputf g m f v) := ⟨p.1.putf (Or.inr ⟨rfl, hf⟩), p.2⟩
theorem MC.keepW {W : Int → Nat → Prop} {A : Int → Prop} {m z0 n : Int} {tp : List Int} {h g : XH} (p : XFr W A h g) (C : MC m z0 tp n h) (hW : ∀ z f, z < z0 → W z f → z = m ∧ 74 ≤ f) (hA : ∀ z, z < z0 → ¬ A z) : MC m z0 tp n g := by
  obtain ⟨⟨b0, b1, b2⟩, t0, ⟨t1, f71, tc⟩, n0, C, f73⟩ := C
  have fl : ∀ f : Nat, f < 74 → xfl g m f = xfl h m f := fun f hf => p.2.2.2.1 _ f (by omega) (fun w => by have := hW _ _ (by omega) w; omega)
  refine ⟨⟨b0, b1, by have := p.2.1; omega⟩, (p.2.2.1 _ (by omega)).trans t0, ⟨(p.2.2.1 _ (by omega)).trans t1, (fl 71 (by decide)).trans f71, fun j hj => (p.2.2.2.2 _ _ (by omega) (hA _ (by omega))).trans (tc j hj)⟩, n0, C.keep p (by omega) (fun z f hz w => by have := hW _ _ (by omega) w; omega) (fun z hz => hA z (by omega)), (fl 73 (by decide)).trans f73⟩
theorem MC.keep {m z0 n : Int} {tp : List Int} {h g : XH} (p : FrM m h g) (C : MC m z0 tp n h) : MC m z0 tp n g := C.keepW p.1 (fun z f _ w => ⟨w.1, w.2.1⟩) (fun _ _ w => w)
theorem m_byteAt {d : Nat} {h : XH} {m z0 n k : Int} {tp : List Int} (C : MC m z0 tp n h) (k0 : 0 ≤ k) : WpM d 144 [.inr (.inr m), .inl k] h (XE (some (.inl (sby tp n k))) h) := by
  obtain ⟨-, t0, ⟨t1, f71, tc⟩, n0, -, f73⟩ := C
  refine WpM.of rfl (Wp.vc 400 [] rfl ?_)
  rw [f73, f71]
  refine ⟨isF t0 rfl, fun c => ⟨trivial, ?_⟩, fun c => ?_⟩
  · rw [show sby tp n k = -1 from if_neg (by omega)]
    exact XE.mk
  · have e := tc k.toNat (by omega)
    rw [Int.toNat_of_nonneg k0] at e
    rw [e, xand255, show sby tp n k = tp.getD k.toNat 0 % 256 from if_pos (by omega)]
    exact ⟨isF t0 rfl, isA t1 k0 (by omega), trivial, rfl, rfl⟩
theorem m_isLetter {d : Nat} {h : XH} {c : Int} : WpM d 145 [.inl c] h (XE (some (.inl (if isSm c then 1 else 0))) h) := by
  refine WpM.of rfl (Wp.vc 400 [] rfl ?_)
  refine ⟨fun w => ⟨⟨by decide, by decide⟩, ?_⟩, fun w => ⟨fun w2 => ⟨⟨by decide, by decide⟩, ?_⟩, fun w2 => ⟨⟨by decide, by decide⟩, ?_⟩⟩⟩
  · rw [if_neg (by omega)]
    exact XE.mk
  · rw [if_neg (by omega)]
    exact XE.mk
  · rw [if_pos (by omega)]
    exact XE.mk
theorem m_isDigit {d : Nat} {h : XH} {c : Int} : WpM d 146 [.inl c] h (XE (some (.inl (if isDg c then 1 else 0))) h) := by
  refine WpM.of rfl (Wp.vc 400 [] rfl ?_)
  refine ⟨fun w => ⟨⟨by decide, by decide⟩, ?_⟩, fun w => ⟨fun w2 => ⟨⟨by decide, by decide⟩, ?_⟩, fun w2 => ⟨⟨by decide, by decide⟩, ?_⟩⟩⟩
  · rw [if_neg (by omega)]
    exact XE.mk
  · rw [if_neg (by omega)]
    exact XE.mk
  · rw [if_pos (by omega)]
    exact XE.mk
def mk_ (k : Int) : Int := if k = 0 then 1 else if k = 1 then 0 else if k = 59 then 4 else k
def MTk (m : Int) (h : XH) (o : Re LTk) : Prop := match o with
  | .inl l => xfl h m 75 = mk_ (lk l) ∧ xfl h m 76 = la l ∧ xfl h m 78 = 0 ∧ (lk l ≠ 1 → xfl h m 74 = le_ l) ∧ (lk l = 2 → xfl h m 80 = xpack (lw l)) ∧ (lk l = 3 → xfl h m 77 = lv l)
  | .inr f => xfl h m 75 = 5 ∧ xfl h m 78 = f.1 ∧ xfl h m 79 = f.2
/-- goesOn under way -/
def NM (m z0 : Int) (tp : List Int) (n : Int) (h g : XH) (k e : Int) : Prop := MC m z0 tp n g ∧ FrM m h g ∧ (xfl g m 76 = k ∧ xfl g m 74 = e) ∧ xfl g m 75 = 0 ∧ xfl g m 78 = 0
theorem NM.putf {m z0 : Int} {tp : List Int} {n : Int} {h g : XH} {k e v : Int} {f : Nat} (N : NM m z0 tp n h g k e) (hf : f = 77 ∨ f = 80) : NM m z0 tp n h (xputf g m f v) k e := by
  obtain ⟨C, p, ⟨f76, f74⟩, f75, f78⟩ := N
  have fl : ∀ f', f' ≠ f → xfl (xputf g m f v) m f' = xfl g m f' := fun f' w => by rw [xfl_putf, if_neg (fun q => w q.2)]
  exact ⟨C.keep (FrM.putf (FrM.refl g) (by omega)), FrM.putf p (by omega), ⟨(fl _ (by omega)).trans f76, (fl _ (by omega)).trans f74⟩, (fl _ (by omega)).trans f75, (fl _ (by omega)).trans f78⟩
theorem NM.pute {m z0 : Int} {tp : List Int} {n : Int} {h g : XH} {k e e' : Int} (N : NM m z0 tp n h g k e) : NM m z0 tp n h (xputf g m 74 e') k e' := by
  obtain ⟨C, p, ⟨f76, f74⟩, f75, f78⟩ := N
  have fl : ∀ f', f' ≠ 74 → xfl (xputf g m 74 e') m f' = xfl g m f' := fun f' w => by rw [xfl_putf, if_neg (fun q => w q.2)]
  exact ⟨C.keep (FrM.putf (FrM.refl g) (by decide)), FrM.putf p (by decide), ⟨(fl _ (by decide)).trans f76, by rw [xfl_putf, if_pos ⟨rfl, rfl⟩]⟩, (fl _ (by decide)).trans f75, (fl _ (by decide)).trans f78⟩
theorem NM.fin {m z0 : Int} {tp : List Int} {n : Int} {h g : XH} {k e kd v s : Int} {w : List Int} (N : NM m z0 tp n h g k e) (hs : s = mk_ kd) (h2 : kd = 2 → xfl g m 80 = xpack w) (h3 : kd = 3 → xfl g m 77 = v) : MTk m (xputf g m 75 s) (.inl (kd, k, e, w, v)) ∧ FrM m h (xputf g m 75 s) := by
  obtain ⟨C, p, ⟨f76, f74⟩, f75, f78⟩ := N
  have fl : ∀ f', f' ≠ 75 → xfl (xputf g m 75 s) m f' = xfl g m f' := fun f' w => by rw [xfl_putf, if_neg (fun q => w q.2)]
  refine ⟨⟨by rw [xfl_putf, if_pos ⟨rfl, rfl⟩]; exact hs, (fl _ (by decide)).trans f76, (fl _ (by decide)).trans f78, fun _ => (fl _ (by decide)).trans f74, fun e => (fl _ (by decide)).trans (h2 e), fun e => (fl _ (by decide)).trans (h3 e)⟩, FrM.putf p (by decide)⟩
theorem NM.bad {m z0 : Int} {tp : List Int} {n : Int} {h g : XH} {k e e' v : Int} {w : List Int} (N : NM m z0 tp n h g k e) : MTk m g (.inl (1, k, e', w, v)) ∧ FrM m h g := by
  obtain ⟨C, p, ⟨f76, f74⟩, f75, f78⟩ := N
  exact ⟨⟨f75, f76, f78, fun q => absurd rfl q, fun q => absurd (show (1 : Int) = 2 from q) (by decide), fun q => absurd (show (1 : Int) = 3 from q) (by decide)⟩, p⟩
theorem m_goesOn0 {d : Nat} {h : XH} {m z0 n e : Int} {tp : List Int} (C : MC m z0 tp n h) (s5 : xfl h m 75 ≠ 5) (f74 : xfl h m 74 = e) (f78 : xfl h m 78 = 0) (e0 : 0 ≤ e ∧ e ≤ n) : WpM (d + 1) 143 [.inr (.inr m)] h (XRet fun v h' => v = none ∧ MTk m h' (.inl (nxt tp n e)) ∧ FrM m h h') := by
  obtain ⟨b1, b2, b3, b4⟩ := runT_spec (tp := tp) (n := n) (p := pBl) (by decide) e
  obtain ⟨s1, s2, s3, s4⟩ := runT_spec (tp := tp) (n := n) (p := pSm) (by decide) (runT tp n pBl e)
  obtain ⟨d1, d2, d3, d4⟩ := runT_spec (tp := tp) (n := n) (p := pDg) (by decide) (runT tp n pBl e)
  have kn : runT tp n pBl e ≤ n := by omega
  have n1100 := C.2.2.2.1.2
  have fin : ∀ g, (MTk m g (.inl (nxt tp n e)) ∧ FrM m h g) → ∀ ls, Wp (d + 1) 143 265 ls [] g (XRet fun v h' => v = none ∧ MTk m h' (.inl (nxt tp n e)) ∧ FrM m h h') := by
    intro g q ls
    refine Wp.vc 400 [] rfl ?_
    exact ⟨trivial, _, rfl, rfl, q⟩
  unfold nxt at fin
  dsimp only at fin
  obtain ⟨k, hk⟩ : ∃ k, k = runT tp n pBl e := ⟨_, rfl⟩
  obtain ⟨Q, hq⟩ : ∃ Q, Q = (XRet fun v h' => v = none ∧ MTk m h' (.inl (nxt tp n e)) ∧ FrM m h h') := ⟨_, rfl⟩
  have hq2 := hq
  unfold nxt at hq2
  dsimp only at hq2
  rw [← hq2] at fin
  rw [← hk] at b1 b2 b3 b4 s1 s2 s3 s4 d1 d2 d3 d4 kn fin
  rw [← hq]
  clear hq hq2
  have k0 : 0 ≤ k := by omega
  have wrd : ∀ g, NM m z0 tp n h g k k → isSm (sby tp n k) → Wp (d + 1) 143 79 [some (.inr (.inr m)), some (.inl (sby tp n k)), some (.inl 0)] [] g Q := by
    intro g N sm
    have cne : sby tp n k ≠ -1 := fun q => by rw [q] at sm; exact absurd sm (by decide)
    rw [if_neg cne, if_pos sm] at fin
    obtain ⟨e', he⟩ : ∃ e', e' = runT tp n pSm k := ⟨_, rfl⟩
    rw [← he] at s1 s2 s3 s4 fin
    have e'n : e' ≤ n := by
      have := sby_lt cne
      omega
    have prg : ∀ x, x ≤ e' → x ≤ k + 8 → 0 ≤ xpack (seg tp n k x) ∧ xpack (seg tp n k x) ≤ 1099511627776 := fun x hx h8 => xpack_up (fun c hc => by
      obtain ⟨j, j0, j1, rfl⟩ := seg_mem hc
      simpa using s2 j j0 (by omega)) (by rw [seg_len]; omega)
    have key : ∀ (x : Int) (g2 : XH), x ≤ e' → (k ≤ x ∧ NM m z0 tp n h g2 k x ∧ xfl g2 m 80 = xpack (seg tp n k (min x (k + 8)))) → Wp (d + 1) 143 84 [some (.inr (.inr m)), some (.inl (sby tp n k)), some (.inl (x - k))] [] g2 Q := by
      refine loopUp (G := fun x g2 => Wp (d + 1) 143 84 [some (.inr (.inr m)), some (.inl (sby tp n k)), some (.inl (x - k))] [] g2 Q) e' ?_ ?_
      · rintro x g2 ⟨x0, N2, f80⟩ hx ih
        have tm := N2.1.2.1
        have f74 := N2.2.2.1.2
        have p := s2 x x0 hx
        have p : isSm (sby tp n x) := by simpa using p
        have at131 : ∀ g3, NM m z0 tp n h g3 k x → xfl g3 m 80 = xpack (seg tp n k (min (x + 1) (k + 8))) → Wp (d + 1) 143 131 [some (.inr (.inr m)), some (.inl (sby tp n k)), some (.inl (x - k))] [] g3 Q := by
          intro g3 N3 l3
          have nx := ih _ ⟨by omega, N3.pute (e' := x + 1), by rw [xfl_putf, if_neg (fun w => absurd w.2 (by decide))]; exact l3⟩
          have f74 := N3.2.2.1.2
          have tm := N3.1.2.1
          rw [show x + 1 - k = x - k + 1 by omega] at nx
          refine Wp.vc 400 [84] rfl ?_
          rw [f74]
          exact ⟨⟨by omega, by omega⟩, isF tm rfl, ⟨by omega, by omega⟩, isW tm rfl, nx⟩
        refine Wp.vc 400 [84, 131] rfl ?_
        rw [f74]
        refine ⟨isF tm rfl, ?_⟩
        refine Wp.callE (j := 0) rfl (Nat.le_of_ble_eq_true rfl) ⟨true, tm⟩ (m_byteAt N2.1 (by omega)) ?_
        refine Wp.vc 400 [84, 131] rfl ?_
        refine Wp.callE (j := 0) rfl (Nat.le_of_ble_eq_true rfl) trivial m_isLetter ?_
        rw [if_pos p]
        refine Wp.vc 400 [84, 131] rfl ?_
        rw [f74]
        refine ⟨fun q => absurd q (by decide), fun _ => ⟨fun q => ?_, fun q => ⟨isF tm rfl, ?_⟩⟩⟩
        · refine at131 g2 N2 ?_
          rw [f80, show min x (k + 8) = k + 8 by omega, show min (x + 1) (k + 8) = k + 8 by omega]
        · have v := prg x (by omega) (by omega)
          rw [show min x (k + 8) = x by omega] at f80
          have nx := at131 _ (N2.putf (v := 32 * xfl g2 m 80 + (sby tp n x - 97 + 1)) (Or.inr rfl)) (by
            rw [xfl_putf, if_pos ⟨rfl, rfl⟩, f80, show min (x + 1) (k + 8) = x + 1 by omega, seg_succ x0]
            exact (xpackA_app _ _ _).symm)
          rw [f80] at nx ⊢
          refine ⟨⟨by omega, by omega⟩, isF tm rfl, ?_⟩
          refine Wp.callE (j := 0) rfl (Nat.le_of_ble_eq_true rfl) ⟨true, tm⟩ (m_byteAt N2.1 (by omega)) ?_
          refine Wp.vc 400 [84, 131] rfl ?_
          exact ⟨⟨by omega, by omega⟩, ⟨by omega, by omega⟩, ⟨by omega, by omega⟩, isW tm rfl, nx⟩
      · rintro g2 ⟨x0, N2, f80⟩
        have tm := N2.1.2.1
        have f74 := N2.2.2.1.2
        have p : ¬ isSm (sby tp n e') := by simpa using s3
        refine Wp.vc 400 [98, 147] rfl ?_
        rw [f74]
        refine ⟨isF tm rfl, ?_⟩
        refine Wp.callE (j := 0) rfl (Nat.le_of_ble_eq_true rfl) ⟨true, tm⟩ (m_byteAt N2.1 (by omega)) ?_
        refine Wp.vc 400 [98, 147] rfl ?_
        refine Wp.callE (j := 0) rfl (Nat.le_of_ble_eq_true rfl) trivial m_isLetter ?_
        rw [if_neg p]
        refine Wp.vc 400 [98, 265] rfl ?_
        refine ⟨fun _ => ⟨fun q => ?_, fun q => ?_⟩, fun q => absurd rfl q⟩
        · rw [if_pos (by omega)] at fin
          exact fin _ N2.bad _
        · rw [if_neg (by omega)] at fin
          rw [show min e' (k + 8) = e' by omega] at f80
          have fi := fin _ (N2.fin (kd := 2) (s := 2) rfl (fun _ => f80) (fun w => absurd w (by decide)))
          exact ⟨isW tm rfl, fi _⟩
    have N3 := N.putf (v := 0) (f := 80) (Or.inr rfl)
    have k1 := key k _ (by omega) ⟨Int.le_refl _, N3, by
      rw [xfl_putf, if_pos ⟨rfl, rfl⟩, show min k (k + 8) = k by omega, seg_nil]
      rfl⟩
    rw [Int.sub_self] at k1
    have tm := N.1.2.1
    refine Wp.vc 400 [84] rfl ?_
    exact ⟨isW tm rfl, k1⟩
  have whl : ∀ g, NM m z0 tp n h g k k → ¬ isSm (sby tp n k) → isDg (sby tp n k) → Wp (d + 1) 143 168 [some (.inr (.inr m)), some (.inl (sby tp n k)), some (.inl 0)] [] g Q := by
    intro g N nsm dg
    have cne : sby tp n k ≠ -1 := fun q => by rw [q] at dg; exact absurd dg (by decide)
    rw [if_neg cne, if_neg nsm, if_pos dg] at fin
    obtain ⟨e', he⟩ : ∃ e', e' = runT tp n pDg k := ⟨_, rfl⟩
    rw [← he] at d1 d2 d3 d4 fin
    have e'n : e' ≤ n := by
      have := sby_lt cne
      omega
    have vrg : ∀ x, x ≤ e' → x ≤ k + 3 → 0 ≤ (seg tp n k x).foldl num1 0 ∧ (seg tp n k x).foldl num1 0 ≤ 999 := by
      intro x hx hx3
      have r := num_rg (seg tp n k x) 0 (fun c hc => by
        obtain ⟨j, j0, j1, rfl⟩ := seg_mem hc
        simpa using d2 j j0 (by omega)) (Int.le_refl _)
      rw [show ((0 : Int) + 1) * 10 ^ (seg tp n k x).length = 10 ^ (seg tp n k x).length from Int.one_mul _] at r
      have p : (10 : Nat) ^ (seg tp n k x).length ≤ 10 ^ 3 := Nat.pow_le_pow_right (by decide) (by rw [seg_len]; omega)
      have e1 : (10 : Int) ^ (seg tp n k x).length = ((10 ^ (seg tp n k x).length : Nat) : Int) := by rw [Int.natCast_pow]; rfl
      have e3 : (10 : Nat) ^ 3 = 1000 := rfl
      omega
    have key : ∀ (x : Int) (g2 : XH), x ≤ e' → (k ≤ x ∧ NM m z0 tp n h g2 k x ∧ xfl g2 m 77 = (seg tp n k (min x (k + 3))).foldl num1 0) → Wp (d + 1) 143 173 [some (.inr (.inr m)), some (.inl (sby tp n k)), some (.inl (x - k))] [] g2 Q := by
      refine loopUp (G := fun x g2 => Wp (d + 1) 143 173 [some (.inr (.inr m)), some (.inl (sby tp n k)), some (.inl (x - k))] [] g2 Q) e' ?_ ?_
      · rintro x g2 ⟨x0, N2, f80⟩ hx ih
        have tm := N2.1.2.1
        have f74 := N2.2.2.1.2
        have p := d2 x x0 hx
        have p : isDg (sby tp n x) := by simpa using p
        have at131 : ∀ g3, NM m z0 tp n h g3 k x → xfl g3 m 77 = (seg tp n k (min (x + 1) (k + 3))).foldl num1 0 → Wp (d + 1) 143 215 [some (.inr (.inr m)), some (.inl (sby tp n k)), some (.inl (x - k))] [] g3 Q := by
          intro g3 N3 l3
          have nx := ih _ ⟨by omega, N3.pute (e' := x + 1), by rw [xfl_putf, if_neg (fun w => absurd w.2 (by decide))]; exact l3⟩
          have f74 := N3.2.2.1.2
          have tm := N3.1.2.1
          rw [show x + 1 - k = x - k + 1 by omega] at nx
          refine Wp.vc 400 [173] rfl ?_
          rw [f74]
          exact ⟨⟨by omega, by omega⟩, isF tm rfl, ⟨by omega, by omega⟩, isW tm rfl, nx⟩
        refine Wp.vc 400 [173, 215] rfl ?_
        rw [f74]
        refine ⟨isF tm rfl, ?_⟩
        refine Wp.callE (j := 0) rfl (Nat.le_of_ble_eq_true rfl) ⟨true, tm⟩ (m_byteAt N2.1 (by omega)) ?_
        refine Wp.vc 400 [173, 215] rfl ?_
        refine Wp.callE (j := 0) rfl (Nat.le_of_ble_eq_true rfl) trivial m_isDigit ?_
        rw [if_pos p]
        refine Wp.vc 400 [173, 215] rfl ?_
        rw [f74]
        refine ⟨fun q => absurd q (by decide), fun _ => ⟨fun q => ?_, fun q => ⟨isF tm rfl, ?_⟩⟩⟩
        · refine at131 g2 N2 ?_
          rw [f80, show min x (k + 3) = k + 3 by omega, show min (x + 1) (k + 3) = k + 3 by omega]
        · have v := vrg x (by omega) (by omega)
          rw [show min x (k + 3) = x by omega] at f80
          have nx := at131 _ (N2.putf (v := 10 * xfl g2 m 77 + sby tp n x - 48) (Or.inl rfl)) (by
            rw [xfl_putf, if_pos ⟨rfl, rfl⟩, f80, show min (x + 1) (k + 3) = x + 1 by omega, seg_succ x0, List.foldl_append]
            rfl)
          rw [f80] at nx ⊢
          refine ⟨⟨by omega, by omega⟩, isF tm rfl, ?_⟩
          refine Wp.callE (j := 0) rfl (Nat.le_of_ble_eq_true rfl) ⟨true, tm⟩ (m_byteAt N2.1 (by omega)) ?_
          refine Wp.vc 400 [173, 215] rfl ?_
          exact ⟨⟨by omega, by omega⟩, ⟨by omega, by omega⟩, isW tm rfl, nx⟩
      · rintro g2 ⟨x0, N2, f80⟩
        have tm := N2.1.2.1
        have f74 := N2.2.2.1.2
        have p : ¬ isDg (sby tp n e') := by simpa using d3
        refine Wp.vc 400 [187, 231] rfl ?_
        rw [f74]
        refine ⟨isF tm rfl, ?_⟩
        refine Wp.callE (j := 0) rfl (Nat.le_of_ble_eq_true rfl) ⟨true, tm⟩ (m_byteAt N2.1 (by omega)) ?_
        refine Wp.vc 400 [187, 231] rfl ?_
        refine Wp.callE (j := 0) rfl (Nat.le_of_ble_eq_true rfl) trivial m_isDigit ?_
        rw [if_neg p]
        refine Wp.vc 400 [187, 265] rfl ?_
        refine ⟨fun _ => ⟨fun q => ?_, fun q => ?_⟩, fun q => absurd rfl q⟩
        · rw [if_pos (by omega)] at fin
          exact fin _ N2.bad _
        · rw [if_neg (by omega)] at fin
          rw [show min e' (k + 3) = e' by omega] at f80
          have fi := fin _ (N2.fin (kd := 3) (s := 3) rfl (fun w => absurd w (by decide)) (fun _ => f80))
          exact ⟨isW tm rfl, fi _⟩
    have N3 := N.putf (v := 0) (f := 77) (Or.inl rfl)
    have k1 := key k _ (by omega) ⟨Int.le_refl _, N3, by
      rw [xfl_putf, if_pos ⟨rfl, rfl⟩, show min k (k + 3) = k by omega, seg_nil]
      rfl⟩
    rw [Int.sub_self] at k1
    have tm := N.1.2.1
    refine Wp.vc 400 [173] rfl ?_
    exact ⟨isW tm rfl, k1⟩
  have at35 : ∀ g, MC m z0 tp n g → FrM m h g → xfl g m 74 = k → xfl g m 78 = 0 → Wp (d + 1) 143 35 [some (.inr (.inr m)), none, none] [] g Q := by
    intro g C p f74 f78
    have tm := C.2.1
    have N : NM m z0 tp n h (xputf (xputf g m 76 k) m 75 0) k k := by
      have fl : ∀ f', f' ≠ 75 → f' ≠ 76 → xfl (xputf (xputf g m 76 k) m 75 0) m f' = xfl g m f' := fun f' w w2 => by rw [xfl_putf, if_neg (fun q => w q.2), xfl_putf, if_neg (fun q => w2 q.2)]
      refine ⟨C.keep (FrM.putf (FrM.putf (FrM.refl g) (by decide)) (by decide)), FrM.putf (FrM.putf p (by decide)) (by decide), ⟨?_, (fl _ (by decide) (by decide)).trans f74⟩, ?_, (fl _ (by decide) (by decide)).trans f78⟩
      · rw [xfl_putf, if_neg (fun w => absurd w.2 (by decide)), xfl_putf, if_pos ⟨rfl, rfl⟩]
      · rw [xfl_putf, if_pos ⟨rfl, rfl⟩]
    refine Wp.vc 400 [53] rfl ?_
    rw [f74]
    obtain ⟨g2, hg2⟩ : ∃ g2, g2 = xputf (xputf g m 76 k) m 75 0 := ⟨_, rfl⟩
    have tm1 : xty (xputf g m 76 k) m = some (true, 9, none) := tm
    rw [← hg2] at N ⊢
    have tm2 := N.1.2.1
    clear hg2
    rw [N.2.2.1.2]
    refine ⟨isF tm rfl, isW tm rfl, isW tm1 rfl, isF tm2 rfl, ?_⟩
    refine Wp.callE (j := 0) rfl (Nat.le_of_ble_eq_true rfl) ⟨true, tm2⟩ (m_byteAt N.1 k0) ?_
    refine Wp.vc 400 [79, 168, 265] rfl ?_
    refine ⟨fun c0 => ?_, fun c0 => ?_⟩
    · refine Wp.callE (j := 0) rfl (Nat.le_of_ble_eq_true rfl) trivial m_isLetter ?_
      by_cases sm : isSm (sby tp n k)
      · rw [if_pos sm]
        refine Wp.vc 400 [79, 168, 265] rfl ?_
        exact ⟨fun q => absurd q (by decide), fun _ => wrd g2 N sm⟩
      · rw [if_neg sm]
        refine Wp.vc 400 [79, 168, 265] rfl ?_
        refine ⟨fun _ => ?_, fun q => absurd rfl q⟩
        refine Wp.callE (j := 0) rfl (Nat.le_of_ble_eq_true rfl) trivial m_isDigit ?_
        by_cases dg : isDg (sby tp n k)
        · rw [if_pos dg]
          refine Wp.vc 400 [79, 168, 265] rfl ?_
          exact ⟨fun q => absurd q (by decide), fun _ => whl g2 N sm dg⟩
        · rw [if_neg dg]
          rw [if_neg c0, if_neg sm, if_neg dg] at fin
          refine Wp.vc 400 [79, 168, 265] rfl ?_
          refine ⟨fun _ => ⟨fun c9 => ?_, fun c9 => ?_⟩, fun q => absurd rfl q⟩
          · rw [if_neg c9] at fin
            exact fin _ N.bad _
          · have c9 := Decidable.of_not_not c9
            rw [if_pos c9] at fin
            have kl := sby_lt c0
            have q := (N.pute (e' := k + 1)).fin (kd := 59) (s := 4) (w := []) (v := 0) rfl (fun w => absurd w (by decide)) (fun w => absurd w (by decide))
            have e : xputf (xputf g2 m 74 (k + 1)) m 75 4 = xputf (xputf g2 m 75 4) m 74 (k + 1) := by
              unfold xputf
              refine Prod.ext rfl (Prod.ext rfl (Prod.ext ?_ rfl))
              funext a f
              show (if a = m ∧ f = 75 then (4 : Int) else if a = m ∧ f = 74 then k + 1 else _) = (if a = m ∧ f = 74 then k + 1 else if a = m ∧ f = 75 then (4 : Int) else _)
              by_cases q1 : a = m ∧ f = 75
              · rw [if_pos q1, if_neg (fun w => by omega), if_pos q1]
              · rw [if_neg q1]
                by_cases q2 : a = m ∧ f = 74
                · rw [if_pos q2, if_pos q2]
                · rw [if_neg q2, if_neg q2, if_neg q1]
            rw [e] at q
            have fi := fin _ q
            have t5 : xty (xputf g2 m 75 4) m = some (true, 9, none) := tm2
            have e74 : xfl (xputf g2 m 75 4) m 74 = k := by rw [xfl_putf, if_neg (fun w => absurd w.2 (by decide))]; exact N.2.2.1.2
            rw [e74]
            exact ⟨isW tm2 rfl, isF t5 rfl, ⟨by omega, by omega⟩, isW t5 rfl, fi _⟩
    · have c0 := Decidable.of_not_not c0
      rw [if_pos c0] at fin
      have fi := fin _ (N.fin (kd := 0) (s := 1) rfl (fun w => absurd w (by decide)) (fun w => absurd w (by decide)))
      exact ⟨isW tm2 rfl, fi _⟩
  have key : ∀ (x : Int) (g : XH), x ≤ k → (e ≤ x ∧ MC m z0 tp n g ∧ FrM m h g ∧ xfl g m 74 = x ∧ xfl g m 78 = 0) → Wp (d + 1) 143 9 [some (.inr (.inr m)), none, none] [] g Q := by
    refine loopUp (G := fun x g => Wp (d + 1) 143 9 [some (.inr (.inr m)), none, none] [] g Q) k ?_ ?_
    · rintro x g ⟨x0, C, p, f74, f78⟩ hx ih
      have tm := C.2.1
      have q : sby tp n x = 32 := by simpa using b2 x x0 hx
      have nx := ih (xputf g m 74 (x + 1)) ⟨by omega, C.keep (FrM.putf (FrM.refl g) (by decide)), FrM.putf p (by decide), by rw [xfl_putf, if_pos ⟨rfl, rfl⟩], by rw [xfl_putf, if_neg (fun w => absurd w.2 (by decide))]; exact f78⟩
      refine Wp.vc 400 [9, 35] rfl ?_
      rw [f74]
      refine ⟨isF tm rfl, ?_⟩
      refine Wp.callE (j := 0) rfl (Nat.le_of_ble_eq_true rfl) ⟨true, tm⟩ (m_byteAt C (by omega)) ?_
      rw [q]
      refine Wp.vc 400 [9, 35] rfl ?_
      rw [f74]
      exact ⟨fun q => absurd rfl q, fun _ => ⟨isF tm rfl, ⟨by omega, by omega⟩, isW tm rfl, nx⟩⟩
    · rintro g ⟨x0, C, p, f74, f78⟩
      have tm := C.2.1
      have q : ¬ sby tp n k = 32 := by simpa using b3
      have a := at35 g C p f74 f78
      refine Wp.vc 400 [22, 35] rfl ?_
      rw [f74]
      refine ⟨isF tm rfl, ?_⟩
      refine Wp.callE (j := 0) rfl (Nat.le_of_ble_eq_true rfl) ⟨true, tm⟩ (m_byteAt C k0) ?_
      refine Wp.vc 400 [22, 35] rfl ?_
      exact ⟨fun _ => a, fun w => absurd q w⟩
  have tm := C.2.1
  have k5 := key e h b1 ⟨Int.le_refl _, C, FrM.refl h, f74, f78⟩
  refine WpM.of rfl (Wp.vc 400 [9] rfl ?_)
  exact ⟨isF tm rfl, fun _ => k5, fun w => absurd s5 w⟩
