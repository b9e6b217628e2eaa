/-! WALKS, 62: feed -/
set_option maxRecDepth 100000
set_option maxHeartbeats 4000000
def fbs (a : Int) : List Int := [xw8 (a / 2 ^ (24 : Int).toNat), xw8 (a / 2 ^ (16 : Int).toNat), xw8 (a / 2 ^ (8 : Int).toNat), xw8 (a / 2 ^ (0 : Int).toNat)]
def fb5 (a b c d e : Int) : List Int := fbs a ++ fbs b ++ fbs c ++ fbs d ++ fbs e
def sPutT (S : XSt) (tp : List Int) : XSt := (S.1, S.2.1, S.2.2.1, S.2.2.2.1, S.2.2.2.2.1, tp)
def opFeed (S : XSt) (a b c d e : Int) : Int × XSt := if ((sTp S).length : Int) + 20 ≤ 1100 then (((sTp S).length : Int) + 20, sPutT S (sTp S ++ fb5 a b c d e)) else (-1, S)
theorem xw8_rg (a : Int) : -128 ≤ xw8 a ∧ xw8 a ≤ 127 := by
  have h1 := (Int8.ofInt a).le_toInt
  have h2 := (Int8.ofInt a).toInt_lt
  unfold xw8
  omega
theorem fbs_len (a : Int) : (fbs a).length = 4 := rfl
theorem fb5_len (a b c d e : Int) : (fb5 a b c d e).length = 20 := rfl
/-- a list in an array, its length in a field -/
def Tape (h : XH) (o : Int) (f : Nat) (r : Int) (L : List Int) : Prop := xfl h o f = (L.length : Int) ∧ ∀ j : Nat, j < L.length → xar h r (j : Int) = L.getD j 0
theorem Tape.push {h : XH} {o : Int} {f : Nat} {r : Int} {L : List Int} (v : Int) (A : Tape h o f r L) : Tape (xputf (xputa h r (xfl h o f) v) o f (xfl h o f + 1)) o f r (L ++ [v]) := by
  obtain ⟨a1, a2⟩ := A
  rw [a1]
  refine ⟨?_, fun j hj => ?_⟩
  · rw [xfl_putf, if_pos ⟨rfl, rfl⟩, List.length_append]
    show _ = (((L.length + 1 : Nat)) : Int)
    omega
  · rw [xar_putf, xar_puta]
    rw [List.length_append] at hj
    have hj : j < L.length + 1 := hj
    by_cases q : j = L.length
    · rw [if_pos ⟨rfl, by omega⟩, q, getD_app2]
    · rw [if_neg (by omega), getD_app1 (by omega)]
      exact a2 j (by omega)
abbrev TpW (o : Int) (f : Nat) : Int → Nat → Prop := fun z g => z = o ∧ g = f
abbrev TpA (r : Int) : Int → Prop := fun z => z = r
theorem tp_fr {h g : XH} {o r i v w : Int} {f : Nat} (p : XFr (TpW o f) (TpA r) h g) : XFr (TpW o f) (TpA r) h (xputf (xputa g r i v) o f w) := (p.puta (Or.inr rfl)).putf (Or.inr ⟨rfl, rfl⟩)
def TpSt (h0 h : XH) (o : Int) (f : Nat) (r : Int) (L : List Int) : Prop := XFr (TpW o f) (TpA r) h0 h ∧ xsz h = xsz h0 ∧ xsl h = xsl h0 ∧ Tape h o f r L
theorem TpSt.push {h0 h : XH} {o : Int} {f : Nat} {r : Int} {L : List Int} (v : Int) (A : TpSt h0 h o f r L) : TpSt h0 (xputf (xputa h r (xfl h o f) v) o f (xfl h o f + 1)) o f r (L ++ [v]) := ⟨tp_fr A.1, A.2.1, A.2.2.1, A.2.2.2.push v⟩
theorem x_bytes {d : Nat} {h0 h : XH} {s a : Int} {L : List Int} (hs : s + 1 < xsz h0) (ts : xty h0 s = some (true, 0, none)) (t1 : xty h0 (s + 1) = some (true, 1, some 1100)) (f0 : xfl h0 s 0 = s + 1) (A : TpSt h0 h s 1 (s + 1) L) (hL : L.length + 4 ≤ 1100) : WpM d 3 [.inr (.inr s), .inl a] h (XRet fun v h' => v = none ∧ TpSt h0 h' s 1 (s + 1) (L ++ fbs a)) := by
  have go : ∀ (h1 : XH) (L1 : List Int) (k : Int) (Q : XO → XH → Prop), L1.length + 1 ≤ 1100 → TpSt h0 h1 s 1 (s + 1) L1 → (0 ≤ k ∧ k < 32) → (∀ h2, TpSt h0 h2 s 1 (s + 1) (L1 ++ [xw8 (a / 2 ^ k.toNat)]) → Wp d 3 3 [some (.inr (.inr s)), some (.inl a), some (.inl (k + -8))] [] h2 Q) → Wp d 3 3 [some (.inr (.inr s)), some (.inl a), some (.inl k)] [] h1 Q := by
    intro h1 L1 k Q hl A1 k0 nx
    have ts1 : xty h1 s = some (true, 0, none) := (A1.1.2.2.1 s (by omega)).trans ts
    have tt1 : xty h1 (s + 1) = some (true, 1, some 1100) := (A1.1.2.2.1 (s + 1) (by omega)).trans t1
    have f1 : xfl h1 s 0 = s + 1 := (A1.1.2.2.2.1 s 0 (by omega) (fun w => absurd w.2 (by decide))).trans f0
    have fl : xfl h1 s 1 = (L1.length : Int) := A1.2.2.2.1
    have rg := xw8_rg (a / 2 ^ k.toNat)
    have nx := nx _ (A1.push _)
    rw [fl] at nx
    refine Wp.vc 400 [3] rfl ?_
    rw [f1, fl]
    refine ⟨fun w => absurd w (by omega), fun _ => ⟨isF ts1 rfl, isF ts1 rfl, ⟨by omega, by omega⟩, ⟨isB tt1 (by omega) (by omega), rg.1, rg.2⟩, isF ts1 rfl, ⟨?_, ?_⟩, isW ts1 rfl, ⟨by omega, by omega⟩, ?_⟩⟩
    · show _ ≤ xfl h1 s 1 + 1
      omega
    · show xfl h1 s 1 + 1 < _
      omega
    · have e : xfl (xputa h1 (s + 1) (L1.length : Int) (xw8 (a / 2 ^ k.toNat))) s 1 = (L1.length : Int) := fl
      rw [e]
      exact nx
  refine WpM.of rfl (Wp.vc 400 [3] rfl ?_)
  refine go h L 24 _ (by omega) A (by decide) (fun h1 A1 => ?_)
  refine go h1 _ 16 _ (by rw [List.length_append]; show L.length + 1 + 1 ≤ _; omega) A1 (by decide) (fun h2 A2 => ?_)
  refine go h2 _ 8 _ (by rw [List.length_append, List.length_append]; show L.length + 1 + 1 + 1 ≤ _; omega) A2 (by decide) (fun h3 A3 => ?_)
  refine go h3 _ 0 _ (by rw [List.length_append, List.length_append, List.length_append]; show L.length + 1 + 1 + 1 + 1 ≤ _; omega) A3 (by decide) (fun h4 A4 => ?_)
  rw [List.append_assoc, List.append_assoc, List.append_assoc] at A4
  refine Wp.vc 400 [7] rfl ?_
  exact ⟨fun _ => ⟨trivial, _, rfl, rfl, A4⟩, fun w => absurd (show (0 : Int) + -8 < 0 by decide) w⟩
theorem TpSt.fin {h0 h : XH} {B s n : Int} {S : XSt} {L : List Int} (R : Rx h0 B s S) (O : SOK n S) (A : TpSt h0 h s 1 (s + 1) L) : Rx h B s (sPutT S L) ∧ XFr (XW s) (XA s) h0 h := by
  have bnd := R.1
  have p : XFr (XW s) (XA s) h0 h := A.1.mono (fun z f _ w => ⟨by omega, by omega, by rw [w.2]; rfl⟩) (fun z _ w => ⟨by omega, by omega, by omega, by omega⟩)
  refine ⟨?_, p⟩
  have fl : ∀ f, f ≠ 1 → xfl h s f = xfl h0 s f := fun f hf => A.1.2.2.2.1 s f (by omega) (fun w => hf w.2)
  have ar : ∀ c i : Int, (1 < c ∧ c < 126) → xar h (s + c) i = xar h0 (s + c) i := fun c i hc => A.1.2.2.2.2 _ i (by omega) (fun w => by have : s + c = s + 1 := w; omega)
  have R0 := R
  obtain ⟨-, -, -, ⟨u1, u2, u3⟩, ⟨v1, v2⟩, r, ⟨r0, r1, r2⟩, RT⟩ := R
  refine R0.re p rfl (fl 3 (by decide)) A.2.2.2 ⟨(fl 4 (by decide)).trans u1, fun e4 => (fl 6 (by decide)).trans (u2 e4), (fl 5 (by decide)).trans u3⟩ ⟨(fl 7 (by decide)).trans v1, (fl 8 (by decide)).trans v2⟩ r ⟨r0, r1, fun k k0 k1 => (ar 47 _ (by decide)).trans (r2 k k0 k1)⟩ (fun T e => ?_)
  unfold RxT at RT
  rw [e] at RT
  obtain ⟨-, q2, q3, q4⟩ := RT
  have hm := O.2.1.2
  rw [fl 3 (by decide)]
  have snap : ∀ (c t : Int) (V : Int → Int), 4 < c → c + 3 < 126 → SnapX h0 T (s + c) t V → SnapX h T (s + c) t V := fun c t V h0 h1 q => q.keep A.1 (by omega) (fun w => by have := w.1; omega) (fun w => by have := w.1; omega) (fun w => by have : s + c + 1 = s + 1 := w; omega) (fun w => by have : s + c + 2 = s + 1 := w; omega) (fun w => by have : s + c + 3 = s + 1 := w; omega)
  refine ⟨snap 5 _ _ (by decide) (by decide) q2, fun k V hk => ?_, fun k V hk => ?_⟩
  · have q := q3 k V hk
    rw [Int.add_assoc] at q ⊢
    exact snap _ _ _ (by omega) (by omega) q
  · have q := q4 k V hk
    have hk3 : k < (sM S).length := (List.getElem?_eq_some_iff.mp hk).1
    rw [Int.add_assoc] at q ⊢
    exact snap _ _ _ (by omega) (by omega) q
theorem x_opFeed {k : Nat} {h : XH} {B s n a b c d e : Int} {S : XSt} (R : Rx h B s S) (O : SOK n S) : WpM (k + 1) 2 [.inr (.inr s), .inl a, .inl b, .inl c, .inl d, .inl e] h (XAn B s h (.inl (opFeed S a b c d e).1) (opFeed S a b c d e).2) := by
  have L := R.2.1
  have bnd := R.1
  have ts := L.2.1
  have t1 := L.2.2.1.1
  have f0 := L.2.2.1.2
  have fl := R.2.2.1.1
  have hs : s + 1 < xsz h := by omega
  have A0 : TpSt h h s 1 (s + 1) (sTp S) := ⟨XFr.refl h, rfl, rfl, R.2.2.1⟩
  clear L
  unfold opFeed
  have ol := O.2.2.1
  refine WpM.of rfl (Wp.vc 400 [] rfl ?_)
  rw [fl]
  refine ⟨isF ts rfl, ⟨by omega, by omega⟩, fun w => ?_, fun w => ?_⟩
  · rw [if_pos w]
    have ln : ∀ M : List Int, (sTp S ++ M).length = (sTp S).length + M.length := fun M => List.length_append
    have tt : ∀ g M, TpSt h g s 1 (s + 1) M → ∃ w : Bool, xty g s = some (w, 0, none) := fun g M A => ⟨true, (A.1.2.2.1 s (by omega)).trans ts⟩
    refine Wp.callR (j := 0) rfl (Nat.le_of_ble_eq_true rfl) (tt _ _ A0) (x_bytes (a := a) hs ts t1 f0 A0 (by omega)) (fun v h1 q => ?_)
    obtain ⟨rfl, A1⟩ := q
    refine Wp.vc 400 [] rfl ?_
    refine Wp.callR (j := 0) rfl (Nat.le_of_ble_eq_true rfl) (tt _ _ A1) (x_bytes (a := b) hs ts t1 f0 A1 (by rw [ln, fbs_len]; omega)) (fun v h2 q => ?_)
    obtain ⟨rfl, A2⟩ := q
    rw [List.append_assoc] at A2
    refine Wp.vc 400 [] rfl ?_
    refine Wp.callR (j := 0) rfl (Nat.le_of_ble_eq_true rfl) (tt _ _ A2) (x_bytes (a := c) hs ts t1 f0 A2 (by rw [ln]; show _ + 8 + 4 ≤ 1100; omega)) (fun v h3 q => ?_)
    obtain ⟨rfl, A3⟩ := q
    rw [List.append_assoc] at A3
    refine Wp.vc 400 [] rfl ?_
    refine Wp.callR (j := 0) rfl (Nat.le_of_ble_eq_true rfl) (tt _ _ A3) (x_bytes (a := d) hs ts t1 f0 A3 (by rw [ln]; show _ + 12 + 4 ≤ 1100; omega)) (fun v h4 q => ?_)
    obtain ⟨rfl, A4⟩ := q
    rw [List.append_assoc] at A4
    refine Wp.vc 400 [] rfl ?_
    refine Wp.callR (j := 0) rfl (Nat.le_of_ble_eq_true rfl) (tt _ _ A4) (x_bytes (a := e) hs ts t1 f0 A4 (by rw [ln]; show _ + 16 + 4 ≤ 1100; omega)) (fun v h5 q => ?_)
    obtain ⟨rfl, A5⟩ := q
    rw [List.append_assoc] at A5
    obtain ⟨R5, p5⟩ := A5.fin R O
    have f5 : xfl h5 s 1 = ((sTp S).length : Int) + 20 := A5.2.2.2.1.trans (by rw [ln]; show (((sTp S).length + 20 : Nat) : Int) = _; omega)
    refine Wp.vc 400 [] rfl ?_
    rw [f5]
    exact ⟨isF ((A5.1.2.2.1 s (by omega)).trans ts) rfl, trivial, XAns.mk R5 p5 A5.2.1 A5.2.2.1⟩
  · rw [if_neg w]
    exact ⟨trivial, XAns.mk R (XFr.refl h) rfl rfl⟩
theorem fb5_get {a b c d e : Int} : ∀ k : Int, 0 ≤ k → k < 20 → (fb5 a b c d e).getD k.toNat 0 = xw8 ((if k < 4 then a else if k < 8 then b else if k < 12 then c else if k < 16 then d else e) / 2 ^ (24 - 8 * k.tmod 4).toNat) := by
  intro k k0 k1
  rcases (by omega : k = 0 ∨ k = 1 ∨ k = 2 ∨ k = 3 ∨ k = 4 ∨ k = 5 ∨ k = 6 ∨ k = 7 ∨ k = 8 ∨ k = 9 ∨ k = 10 ∨ k = 11 ∨ k = 12 ∨ k = 13 ∨ k = 14 ∨ k = 15 ∨ k = 16 ∨ k = 17 ∨ k = 18 ∨ k = 19) with rfl | rfl | rfl | rfl | rfl | rfl | rfl | rfl | rfl | rfl | rfl | rfl | rfl | rfl | rfl | rfl | rfl | rfl | rfl | rfl
  · rw [if_pos (by decide)]
    exact congrArg (fun n : Nat => xw8 (a / 2 ^ n)) (show (24 : Int).toNat = (24 - 8 * (0 : Int).tmod 4).toNat by decide)
  · rw [if_pos (by decide)]
    exact congrArg (fun n : Nat => xw8 (a / 2 ^ n)) (show (16 : Int).toNat = (24 - 8 * (1 : Int).tmod 4).toNat by decide)
  · rw [if_pos (by decide)]
    exact congrArg (fun n : Nat => xw8 (a / 2 ^ n)) (show (8 : Int).toNat = (24 - 8 * (2 : Int).tmod 4).toNat by decide)
  · rw [if_pos (by decide)]
    exact congrArg (fun n : Nat => xw8 (a / 2 ^ n)) (show (0 : Int).toNat = (24 - 8 * (3 : Int).tmod 4).toNat by decide)
  · rw [if_neg (by decide), if_pos (by decide)]
    exact congrArg (fun n : Nat => xw8 (b / 2 ^ n)) (show (24 : Int).toNat = (24 - 8 * (4 : Int).tmod 4).toNat by decide)
  · rw [if_neg (by decide), if_pos (by decide)]
    exact congrArg (fun n : Nat => xw8 (b / 2 ^ n)) (show (16 : Int).toNat = (24 - 8 * (5 : Int).tmod 4).toNat by decide)
  · rw [if_neg (by decide), if_pos (by decide)]
    exact congrArg (fun n : Nat => xw8 (b / 2 ^ n)) (show (8 : Int).toNat = (24 - 8 * (6 : Int).tmod 4).toNat by decide)
  · rw [if_neg (by decide), if_pos (by decide)]
    exact congrArg (fun n : Nat => xw8 (b / 2 ^ n)) (show (0 : Int).toNat = (24 - 8 * (7 : Int).tmod 4).toNat by decide)
  · rw [if_neg (by decide), if_neg (by decide), if_pos (by decide)]
    exact congrArg (fun n : Nat => xw8 (c / 2 ^ n)) (show (24 : Int).toNat = (24 - 8 * (8 : Int).tmod 4).toNat by decide)
  · rw [if_neg (by decide), if_neg (by decide), if_pos (by decide)]
    exact congrArg (fun n : Nat => xw8 (c / 2 ^ n)) (show (16 : Int).toNat = (24 - 8 * (9 : Int).tmod 4).toNat by decide)
  · rw [if_neg (by decide), if_neg (by decide), if_pos (by decide)]
    exact congrArg (fun n : Nat => xw8 (c / 2 ^ n)) (show (8 : Int).toNat = (24 - 8 * (10 : Int).tmod 4).toNat by decide)
  · rw [if_neg (by decide), if_neg (by decide), if_pos (by decide)]
    exact congrArg (fun n : Nat => xw8 (c / 2 ^ n)) (show (0 : Int).toNat = (24 - 8 * (11 : Int).tmod 4).toNat by decide)
  · rw [if_neg (by decide), if_neg (by decide), if_neg (by decide), if_pos (by decide)]
    exact congrArg (fun n : Nat => xw8 (d / 2 ^ n)) (show (24 : Int).toNat = (24 - 8 * (12 : Int).tmod 4).toNat by decide)
  · rw [if_neg (by decide), if_neg (by decide), if_neg (by decide), if_pos (by decide)]
    exact congrArg (fun n : Nat => xw8 (d / 2 ^ n)) (show (16 : Int).toNat = (24 - 8 * (13 : Int).tmod 4).toNat by decide)
  · rw [if_neg (by decide), if_neg (by decide), if_neg (by decide), if_pos (by decide)]
    exact congrArg (fun n : Nat => xw8 (d / 2 ^ n)) (show (8 : Int).toNat = (24 - 8 * (14 : Int).tmod 4).toNat by decide)
  · rw [if_neg (by decide), if_neg (by decide), if_neg (by decide), if_pos (by decide)]
    exact congrArg (fun n : Nat => xw8 (d / 2 ^ n)) (show (0 : Int).toNat = (24 - 8 * (15 : Int).tmod 4).toNat by decide)
  · rw [if_neg (by decide), if_neg (by decide), if_neg (by decide), if_neg (by decide)]
    exact congrArg (fun n : Nat => xw8 (e / 2 ^ n)) (show (24 : Int).toNat = (24 - 8 * (16 : Int).tmod 4).toNat by decide)
  · rw [if_neg (by decide), if_neg (by decide), if_neg (by decide), if_neg (by decide)]
    exact congrArg (fun n : Nat => xw8 (e / 2 ^ n)) (show (16 : Int).toNat = (24 - 8 * (17 : Int).tmod 4).toNat by decide)
  · rw [if_neg (by decide), if_neg (by decide), if_neg (by decide), if_neg (by decide)]
    exact congrArg (fun n : Nat => xw8 (e / 2 ^ n)) (show (8 : Int).toNat = (24 - 8 * (18 : Int).tmod 4).toNat by decide)
  · rw [if_neg (by decide), if_neg (by decide), if_neg (by decide), if_neg (by decide)]
    exact congrArg (fun n : Nat => xw8 (e / 2 ^ n)) (show (0 : Int).toNat = (24 - 8 * (19 : Int).tmod 4).toNat by decide)
theorem m_opFeed {k : Nat} {h : XH} {B m n a b c d e : Int} {S : XSt} (R : Rm h B m S) (O : SOK n S) : WpM k 140 [.inr (.inr m), .inl a, .inl b, .inl c, .inl d, .inl e] h (MAn B m h (.inl (opFeed S a b c d e).1) (opFeed S a b c d e).2) := by
  refine WpM.of rfl (MU.start R O rfl (fun g U => ?_))
  have tm := U.tm
  have R1 := U.1
  have bnd := U.bnd
  have fl := R1.2.2.1.1
  have f1 := U.lay.2.1
  unfold opFeed
  have ol := O.2.2.1
  refine Wp.vc 400 [23] rfl ?_
  rw [fl]
  refine ⟨isF tm rfl, ⟨by omega, by omega⟩, fun w => ?_, fun w => ?_⟩
  · rw [if_pos w]
    have fin : ∀ g2, TpSt g g2 m 72 (m + 1) (sTp S ++ fb5 a b c d e) → MAn B m h (.inl (((sTp S).length : Int) + 20)) (sPutT S (sTp S ++ fb5 a b c d e)) (.inl (some (.inl (xfl g2 m 72)))) g2 := by
      intro g2 A
      have p : XFr (MW m) (fun z => m ≤ z ∧ z < m + 15) g g2 := A.1.mono (fun z f _ w => ⟨w.1, by rw [w.2]; rfl⟩) (fun z _ w => by have : z = m + 1 := w; omega)
      have fl' : ∀ f, f ≠ 72 → xfl g2 m f = xfl g m f := fun f hf => A.1.2.2.2.1 m f (by omega) (fun w => hf w.2)
      have ar : ∀ c i : Int, (1 < c ∧ c < 16) → xar g2 (m + c) i = xar g (m + c) i := fun c i hc => A.1.2.2.2.2 _ i (by omega) (fun w => by have : m + c = m + 1 := w; omega)
      have e20 : xfl g2 m 72 = ((sTp S).length : Int) + 20 := A.2.2.2.1.trans (by rw [List.length_append]; show (((sTp S).length + 20 : Nat) : Int) = _; omega)
      rw [e20]
      have R0 := R1
      obtain ⟨-, -, -, ⟨u1, u2, u3⟩, ⟨v1, v2⟩, -⟩ := R0
      refine XAns.mk (R1.re p rfl (fl' 69 (by decide)) A.2.2.2 ⟨(fl' 67 (by decide)).trans u1, (fl' 68 (by decide)).trans u2, (fl' 78 (by decide)).trans u3⟩ ⟨(fl' 85 (by decide)).trans v1, (fl' 84 (by decide)).trans v2⟩ (fun T e => ?_)) (U.2.2.1.trans p (fun _ _ _ w => w) (fun _ _ w => ⟨by omega, by omega⟩)) (A.2.1.trans U.2.2.2.1) (A.2.2.1.trans U.2.2.2.2)
      have q := R1.parts e
      simp only [fun i => ar 2 i (by decide), fun i => ar 3 i (by decide), fun i => ar 4 i (by decide)]
      exact q
    have key : ∀ (k' : Int) (g2 : XH), k' ≤ 20 → (0 ≤ k' ∧ TpSt g g2 m 72 (m + 1) (sTp S ++ (fb5 a b c d e).take k'.toNat)) → ∀ l7, Wp k 140 23 [some (.inr (.inr m)), some (.inl a), some (.inl b), some (.inl c), some (.inl d), some (.inl e), some (.inl k'), l7] [] g2 (MAn B m h (.inl (((sTp S).length : Int) + 20)) (sPutT S (sTp S ++ fb5 a b c d e))) := by
      refine loopUp (G := fun k' g2 => ∀ l7, Wp k 140 23 [some (.inr (.inr m)), some (.inl a), some (.inl b), some (.inl c), some (.inl d), some (.inl e), some (.inl k'), l7] [] g2 (MAn B m h (.inl (((sTp S).length : Int) + 20)) (sPutT S (sTp S ++ fb5 a b c d e)))) 20 ?_ ?_
      · rintro k' g2 ⟨k0, A⟩ hk ih l7
        have tm2 : xty g2 m = some (true, 9, none) := (A.1.2.2.1 m (by omega)).trans tm
        have t12 : xty g2 (m + 1) = some (true, 1, some 1100) := (A.1.2.2.1 (m + 1) (by omega)).trans f1.1
        have f12 : xfl g2 m 71 = m + 1 := (A.1.2.2.2.1 m 71 (by omega) (fun w => absurd w.2 (by decide))).trans f1.2
        have ln : ((sTp S ++ (fb5 a b c d e).take k'.toNat).length : Int) = ((sTp S).length : Int) + k' := by
          rw [List.length_append, List.length_take, fb5_len]
          omega
        have fl2 := A.2.2.2.1
        rw [ln] at fl2
        have at76 : ∀ v : Int, v = (if k' < 4 then a else if k' < 8 then b else if k' < 12 then c else if k' < 16 then d else e) → Wp k 140 76 [some (.inr (.inr m)), some (.inl a), some (.inl b), some (.inl c), some (.inl d), some (.inl e), some (.inl k'), l7] [.inl v] g2 (MAn B m h (.inl (((sTp S).length : Int) + 20)) (sPutT S (sTp S ++ fb5 a b c d e))) := by
          intro v ev
          have rg := xw8_rg (v / 2 ^ (24 - 8 * k'.tmod 4).toNat)
          have A' := A.push (xw8 (v / 2 ^ (24 - 8 * k'.tmod 4).toNat))
          rw [List.append_assoc] at A'
          have ek : (fb5 a b c d e).take (k' + 1).toNat = (fb5 a b c d e).take k'.toNat ++ [xw8 (v / 2 ^ (24 - 8 * k'.tmod 4).toNat)] := by
            have lt : k'.toNat < (fb5 a b c d e).length := by rw [fb5_len]; omega
            rw [show (k' + 1).toNat = k'.toNat + 1 by omega, List.take_succ_eq_append_getElem lt, ev, ← fb5_get k' k0 hk, show (fb5 a b c d e).getD k'.toNat 0 = (fb5 a b c d e)[k'.toNat] from (List.getElem_eq_getD 0).symm]
          rw [← ek] at A'
          have nx := ih _ ⟨by omega, A'⟩ (some (.inl v))
          rw [fl2] at nx
          have tm4 : k'.tmod 4 = k' % 4 := Int.tmod_eq_emod_of_nonneg k0
          refine Wp.vc 400 [23] rfl ?_
          rw [f12, fl2]
          refine ⟨isF tm2 rfl, isF tm2 rfl, ⟨by decide, Or.inl k0⟩, ⟨by omega, by omega⟩, ⟨by omega, by omega⟩, ⟨by omega, by omega⟩, ⟨isB t12 (by omega) (by omega), rg.1, rg.2⟩, isF tm2 rfl, ⟨?_, ?_⟩, isW tm2 rfl, ⟨by omega, by omega⟩, ?_⟩
          · show _ ≤ xfl g2 m 72 + 1
            omega
          · show xfl g2 m 72 + 1 < _
            omega
          · have e : xfl (xputa g2 (m + 1) (((sTp S).length : Int) + k') (xw8 (v / 2 ^ (24 - 8 * k'.tmod 4).toNat))) m 72 = ((sTp S).length : Int) + k' := fl2
            rw [e]
            exact nx
        refine Wp.vc 400 [23, 76, 117] rfl ?_
        refine ⟨fun w => absurd w (by omega), fun _ => ⟨fun w => ⟨fun w2 => ⟨fun w3 => ⟨fun w4 => ?_, fun w4 => ?_⟩, fun w3 => ?_⟩, fun w2 => ?_⟩, fun w => ?_⟩⟩
        · exact at76 e (by rw [if_neg (by omega), if_neg (by omega), if_neg (by omega), if_neg (by omega)])
        · exact at76 d (by rw [if_neg (by omega), if_neg (by omega), if_neg (by omega), if_pos (by omega)])
        · exact at76 c (by rw [if_neg (by omega), if_neg (by omega), if_pos (by omega)])
        · exact at76 b (by rw [if_neg (by omega), if_pos (by omega)])
        · exact at76 a (by rw [if_pos (by omega)])
      · rintro g2 ⟨k0, A⟩ l7
        have tm2 : xty g2 m = some (true, 9, none) := (A.1.2.2.1 m (by omega)).trans tm
        have f := fin g2 A
        refine Wp.vc 400 [30] rfl ?_
        exact ⟨fun _ => ⟨isF tm2 rfl, trivial, f⟩, fun w => absurd (Int.le_refl _) w⟩
    have A0 : TpSt g g m 72 (m + 1) (sTp S ++ (fb5 a b c d e).take (0 : Int).toNat) := ⟨XFr.refl g, rfl, rfl, by
      rw [show (fb5 a b c d e).take (0 : Int).toNat = [] from rfl, List.append_nil]
      exact R1.2.2.1⟩
    exact key 0 g (by decide) ⟨Int.le_refl _, A0⟩ none
  · rw [if_neg w]
    exact ⟨trivial, U.ret⟩
