/-! WALKS, 12: simple questions, on -/
set_option maxRecDepth 100000
set_option maxHeartbeats 4000000
def opFault (S : XSt) : Int × XSt := (sFa S, S)
def opWhere (S : XSt) : Int × XSt := (sWh S, S)
def opTrouble (S : XSt) : Int × XSt := (sTr S, S)
theorem x_opFault {d : Nat} {h : XH} {B s : Int} {S : XSt} (R : Rx h B s S) : WpM d 8 [.inr (.inr s)] h (XAns (fun h' S' => Rx h' B s S') (XW s) (XA s) (some (.inl (opFault S).1)) (opFault S).2 h) := by
  refine WpM.of rfl (Wp.vc 400 [] rfl ?_)
  rw [R.2.2.2.1.2.2]
  exact ⟨isF R.2.1.2.1 rfl, trivial, XAns.mk R (XFr.refl h) rfl rfl⟩
theorem x_opTrouble {d : Nat} {h : XH} {B s : Int} {S : XSt} (R : Rx h B s S) : WpM d 71 [.inr (.inr s)] h (XAns (fun h' S' => Rx h' B s S') (XW s) (XA s) (some (.inl (opTrouble S).1)) (opTrouble S).2 h) := by
  refine WpM.of rfl (Wp.vc 400 [] rfl ?_)
  rw [R.2.2.2.1.1]
  exact ⟨isF R.2.1.2.1 rfl, trivial, XAns.mk R (XFr.refl h) rfl rfl⟩
theorem x_opWhere {d : Nat} {h : XH} {B s n : Int} {S : XSt} (R : Rx h B s S) (O : SOK n S) : WpM d 9 [.inr (.inr s)] h (XAns (fun h' S' => Rx h' B s S') (XW s) (XA s) (some (.inl (opWhere S).1)) (opWhere S).2 h) := by
  have ts := R.2.1.2.1
  have e4 := R.2.2.2.1.1
  have e6 := R.2.2.2.1.2.1
  have O4 := O.2.2.2.1
  refine WpM.of rfl (Wp.vc 400 [] rfl ?_)
  rw [e4]
  refine ⟨isF ts rfl, fun c => ⟨trivial, ?_⟩, fun c => ⟨isF ts rfl, trivial, ?_⟩⟩
  · rw [← O4 c]
    exact XAns.mk R (XFr.refl h) rfl rfl
  · rw [e6 (Decidable.of_not_not c)]
    exact XAns.mk R (XFr.refl h) rfl rfl
theorem m_opFault {d : Nat} {h : XH} {B m : Int} {S : XSt} (R : Rm h B m S) : WpM d 175 [.inr (.inr m)] h (XAns (fun h' S' => Rm h' B m S') (MW m) (MA m) (some (.inl (opFault S).1)) (opFault S).2 h) := by
  obtain ⟨R0, p0, tm⟩ := R.begin
  refine WpM.of rfl (Wp.vc 400 [] rfl ?_)
  rw [R0.2.2.2.1.2.2]
  exact ⟨isW tm rfl, isF R0.2.1.1 rfl, trivial, XAns.mk R0 p0 rfl rfl⟩
theorem m_opWhere {d : Nat} {h : XH} {B m : Int} {S : XSt} (R : Rm h B m S) : WpM d 176 [.inr (.inr m)] h (XAns (fun h' S' => Rm h' B m S') (MW m) (MA m) (some (.inl (opWhere S).1)) (opWhere S).2 h) := by
  obtain ⟨R0, p0, tm⟩ := R.begin
  refine WpM.of rfl (Wp.vc 400 [] rfl ?_)
  rw [R0.2.2.2.1.2.1]
  exact ⟨isW tm rfl, isF R0.2.1.1 rfl, trivial, XAns.mk R0 p0 rfl rfl⟩
theorem m_opTrouble {d : Nat} {h : XH} {B m : Int} {S : XSt} (R : Rm h B m S) : WpM d 255 [.inr (.inr m)] h (XAns (fun h' S' => Rm h' B m S') (MW m) (MA m) (some (.inl (opTrouble S).1)) (opTrouble S).2 h) := by
  obtain ⟨R0, p0, tm⟩ := R.begin
  refine WpM.of rfl (Wp.vc 400 [] rfl ?_)
  rw [R0.2.2.2.1.1]
  exact ⟨isW tm rfl, isF R0.2.1.1 rfl, trivial, XAns.mk R0 p0 rfl rfl⟩
/-- what may be written freely: WrongRoom's tries, its reader -/
abbrev XScr (s : Int) : Int → Nat → Prop := fun z f => (z = s ∧ f = 20) ∨ (s + 2 ≤ z ∧ z < s + 5 ∧ xfin f = false) ∨ (s + 9 ≤ z ∧ z < s + 47 ∧ xfin f = false)
abbrev AScrX (s : Int) : Int → Prop := fun z => (s + 2 ≤ z ∧ z < s + 5) ∨ (s + 9 ≤ z ∧ z < s + 47 ∧ z ≠ s + 28) ∨ z = s + 49
theorem xscr_xw {s : Int} : ∀ z f, XScr s z f → XW s z f := fun z f w => by
  rcases w with ⟨w1, w2⟩ | ⟨w1, w2, w3⟩ | ⟨w1, w2, w3⟩
  · exact ⟨by omega, by omega, by rw [w2]; rfl⟩
  · exact ⟨by omega, by omega, w3⟩
  · exact ⟨by omega, by omega, w3⟩
theorem ascr_xa {s : Int} : ∀ z, AScrX s z → XA s z := fun z w => ⟨by omega, by omega, by omega, by omega⟩
theorem Rx.scr {h g : XH} {B s n : Int} {S : XSt} (R : Rx h B s S) (O : SOK n S) (p : XFr (XScr s) (AScrX s) h g) : Rx g B s S := by
  obtain ⟨⟨b0, b1, b2⟩, L, ⟨t1, t2⟩, ⟨u1, u2, u3⟩, ⟨v1, v2⟩, r, ⟨r0, r1, r2⟩, RT⟩ := R
  have ab : Above B h g := Above.of p (fun z f hz _ _ w => by omega) (fun z hz w => by omega)
  have fl : ∀ f : Nat, f ≠ 20 → xfl g s f = xfl h s f := fun f hf => p.2.2.2.1 s f (by omega) (fun w => by omega)
  have ar : ∀ c i : Int, (c = 1 ∨ c = 47) → xar g (s + c) i = xar h (s + c) i := fun c i hc => p.2.2.2.2 _ i (by omega) (fun w => by omega)
  have f3 := fl 3 (by decide)
  have snap : ∀ (T : XTw) (c t : Int) (V : Int → Int), (c = 5 ∨ (50 ≤ c ∧ c + 3 < 126)) → SnapX h T (s + c) t V → SnapX g T (s + c) t V := fun T c t V hc q => q.keep p (by omega) (fun w => by omega) (fun w => by omega) (fun w => by omega) (fun w => by omega) (fun w => by omega)
  have LL : XLay g s := L.keep p (fun z f _ _ hf w => by
    have := (xscr_xw z f w).2.2
    rw [hf] at this
    cases this) (fun w => by omega) (fun w => by omega)
  refine ⟨⟨b0, b1, by have := p.2.1; omega⟩, LL, ⟨(fl 1 (by decide)).trans t1, fun j hj => (ar 1 _ (Or.inl rfl)).trans (t2 j hj)⟩, ⟨(fl 4 (by decide)).trans u1, fun e => (fl 6 (by decide)).trans (u2 e), (fl 5 (by decide)).trans u3⟩, ⟨(fl 7 (by decide)).trans v1, (fl 8 (by decide)).trans v2⟩, r, ⟨r0, r1, fun k k0 k1 => (ar 47 _ (Or.inr rfl)).trans (r2 k k0 k1)⟩, ?_⟩
  clear L LL t2 r2
  unfold RxT at RT ⊢
  rw [f3]
  have hm := O.2.1.2
  clear O
  split at RT
  · next e => exact RT
  · next T e =>
    obtain ⟨q1, q2, q3, q4⟩ := RT
    refine ⟨q1.keep ab, snap T 5 _ _ (Or.inl rfl) q2, fun k V hk => ?_, fun k V hk => ?_⟩
    · have q := q3 k V hk
      rw [Int.add_assoc] at q ⊢
      exact snap T _ _ _ (Or.inr (by omega)) q
    · have q := q4 k V hk
      have hk3 := (List.getElem?_eq_some_iff.mp hk).1
      rw [Int.add_assoc] at q ⊢
      exact snap T _ _ _ (Or.inr (by omega)) q
