/-! WALKS, 97: what is not written is kept -/
set_option maxRecDepth 100000
set_option maxHeartbeats 4000000
theorem Rm.far {W : Int → Nat → Prop} {A : Int → Prop} {h g : XH} {B m : Int} {S : XSt} (R : Rm h B m S) (p : XFr W A h g) (hW : ∀ z f, (m ≤ z ∧ z < m + 16) ∨ B ≤ z → ¬ W z f) (hA : ∀ z, (m ≤ z ∧ z < m + 16) ∨ B ≤ z → ¬ A z) : Rm g B m S := by
  obtain ⟨⟨b0, b1, b2⟩, L, ⟨f72, tp⟩, ⟨f67, f68, f78⟩, ⟨f85, f84⟩, RT⟩ := R
  have f : ∀ k, xfl g m k = xfl h m k := fun k => p.2.2.2.1 m k (by omega) (hW _ _ (Or.inl ⟨by omega, by omega⟩))
  have a : ∀ c i, 0 ≤ c → c < 16 → xar g (m + c) i = xar h (m + c) i := fun c i c0 c1 => p.2.2.2.2 _ i (by omega) (hA _ (Or.inl ⟨by omega, by omega⟩))
  refine ⟨⟨b0, b1, by have := p.2.1; omega⟩, L.keep p (by omega) (fun k _ w => hW _ _ (Or.inl ⟨Int.le_refl _, by omega⟩) w), ⟨(f _).trans f72, fun j hj => (a 1 _ (by decide) (by decide)).trans (tp j hj)⟩, ⟨(f _).trans f67, (f _).trans f68, (f _).trans f78⟩, ⟨(f _).trans f85, (f _).trans f84⟩, ?_⟩
  unfold RmT at RT ⊢
  rw [f]
  cases e : sT S with
  | none =>
    rw [e] at RT
    exact RT
  | some T =>
    rw [e] at RT
    obtain ⟨X, v1, v2, u, k, far⟩ := RT
    refine ⟨X.keep (Above.of p (fun z f hz _ _ => hW z f (Or.inr hz)) (fun z hz => hA z (Or.inr hz))), fun i i0 i1 => (a 2 _ (by decide) (by decide)).trans (v1 i i0 i1), fun q q0 q1 => ⟨(a 2 _ (by decide) (by decide)).trans (v2 q q0 q1).1, (a 2 _ (by decide) (by decide)).trans (v2 q q0 q1).2⟩, fun j V hj => ⟨fun i i0 i1 => (a 3 _ (by decide) (by decide)).trans ((u j V hj).1 i i0 i1), fun q q0 q1 => ⟨(a 3 _ (by decide) (by decide)).trans ((u j V hj).2 q q0 q1).1, (a 3 _ (by decide) (by decide)).trans ((u j V hj).2 q q0 q1).2⟩⟩, fun j V hj => ⟨fun i i0 i1 => (a 4 _ (by decide) (by decide)).trans ((k j V hj).1 i i0 i1), fun q q0 q1 => ⟨(a 4 _ (by decide) (by decide)).trans ((k j V hj).2 q q0 q1).1, (a 4 _ (by decide) (by decide)).trans ((k j V hj).2 q q0 q1).2⟩⟩, ?_⟩
    rw [show xar g (m + 15) = xar h (m + 15) from funext fun i => a 15 i (by decide) (by decide)]
    exact far
theorem Rx.far {W : Int → Nat → Prop} {A : Int → Prop} {h g : XH} {B s n : Int} {S : XSt} (R : Rx h B s S) (O : SOK n S) (p : XFr W A h g) (hW : ∀ z f, (s ≤ z ∧ z < s + 126) ∨ B ≤ z → ¬ W z f) (hA : ∀ z, (s ≤ z ∧ z < s + 126) ∨ B ≤ z → ¬ A z) : Rx g B s S := by
  obtain ⟨⟨b0, b1, b2⟩, L, ⟨f1, tp⟩, ⟨f4, f6, f5⟩, ⟨f7, f8⟩, r, ⟨r0, r1, rr⟩, RT⟩ := R
  have f : ∀ k, xfl g s k = xfl h s k := fun k => p.2.2.2.1 s k (by omega) (hW _ _ (Or.inl ⟨by omega, by omega⟩))
  have a : ∀ c i, 0 ≤ c → c < 126 → xar g (s + c) i = xar h (s + c) i := fun c i c0 c1 => p.2.2.2.2 _ i (by omega) (hA _ (Or.inl ⟨by omega, by omega⟩))
  have sk : ∀ (T : XTw) (c t : Int) (V : Int → Int), 0 ≤ c → c + 3 < 126 → SnapX h T (s + c) t V → SnapX g T (s + c) t V := fun T c t V c0 c1 S => S.keep p (by omega) (hW _ _ (Or.inl ⟨by omega, by omega⟩)) (hW _ _ (Or.inl ⟨by omega, by omega⟩)) (hA _ (Or.inl ⟨by omega, by omega⟩)) (hA _ (Or.inl ⟨by omega, by omega⟩)) (hA _ (Or.inl ⟨by omega, by omega⟩))
  refine ⟨⟨b0, b1, by have := p.2.1; omega⟩, L.keep p (fun z f z0 z1 _ => hW z f (Or.inl ⟨z0, z1⟩)) (hA _ (Or.inl ⟨by omega, by omega⟩)) (hA _ (Or.inl ⟨by omega, by omega⟩)), ⟨(f _).trans f1, fun j hj => (a 1 _ (by decide) (by decide)).trans (tp j hj)⟩, ⟨(f _).trans f4, fun e => (f _).trans (f6 e), (f _).trans f5⟩, ⟨(f _).trans f7, (f _).trans f8⟩, r, ⟨r0, r1, fun k k0 k1 => (a 47 _ (by decide) (by decide)).trans (rr k k0 k1)⟩, ?_⟩
  unfold RxT at RT ⊢
  rw [f]
  cases e : sT S with
  | none =>
    rw [e] at RT
    exact RT
  | some T =>
    rw [e] at RT
    obtain ⟨X, v, u, k⟩ := RT
    have lu := O.2.1
    refine ⟨X.keep (Above.of p (fun z f hz _ _ => hW z f (Or.inr hz)) (fun z hz => hA z (Or.inr hz))), sk T 5 _ _ (by decide) (by decide) v, fun j V hj => ?_, fun j V hj => ?_⟩
    · have := sk T (50 + 4 * (((j : Int) + r) % 16)) _ V (by omega) (by omega) (by rw [← Int.add_assoc]; exact u j V hj)
      rwa [← Int.add_assoc] at this
    · have hl : j < (sM S).length := (List.getElem?_eq_some_iff.mp hj).1
      have := sk T (114 + 4 * (j : Int)) _ V (by omega) (by omega) (by rw [← Int.add_assoc]; exact k j V hj)
      rwa [← Int.add_assoc] at this
/-- the two side by side: x at s, m at s + 126, out at s + 142 -/
def LawI (h0 : XH) (s scr : Int) (L n : Int) (xs : Nat → Int) (S : XSt) (h : XH) : Prop := (Rx h (s + 143) s S ∧ Rm h (s + 143) (s + 126) S ∧ SOK n S) ∧ (CstOK h s ∧ xty h 0 = none ∧ xty h (s + 142) = some (true, 3, some 1)) ∧ (1 ≤ scr ∧ scr < s ∧ xty h scr = some (false, 0, some L) ∧ ∀ j : Nat, (j : Int) < L → xar h scr j = xs j ∧ -2147483648 ≤ xs j ∧ xs j < 2147483648) ∧ xsz h ≤ s + 143 + n * 3324 ∧ xsl h ≤ xsl h0 + 6000 + n * 26746
/-- an end of x's op, of m's op -/
abbrev XEnd (B s : Int) (h : XH) (v : XV) (S' : XSt) : Option XV → XH → Prop := fun v' h' => v' = some v ∧ Rx h' B s S' ∧ XFr (XW s) (XA s) h h' ∧ xsz h' ≤ xsz h + 3306 ∧ xsl h' ≤ xsl h + 26556
abbrev MEnd (B m : Int) (h : XH) (v : XV) (S' : XSt) : Option XV → XH → Prop := fun v' h' => v' = some v ∧ Rm h' B m S' ∧ XFr (MW m) (MA m) h h' ∧ xsz h' ≤ xsz h + 18 ∧ xsl h' ≤ xsl h + 190
theorem xend {B s : Int} {d y : Nat} {args : XS} {h : XH} {v : XV} {S' : XSt} (a : WpM d y args h (XAns (fun h' S' => Rx h' B s S') (XW s) (XA s) (some v) S' h)) : WpM d y args h (XRet (XEnd B s h v S')) := by
  obtain ⟨le, e, o, h', r, v', e1, e2, e3, e4, e5, e6⟩ := a
  exact ⟨le, e, o, h', r, v', e1, e2, e3, e4, by omega, by omega⟩
theorem mend {B m : Int} {d y : Nat} {args : XS} {h : XH} {v : XV} {S' : XSt} (a : WpM d y args h (XAns (fun h' S' => Rm h' B m S') (MW m) (MA m) (some v) S' h)) : WpM d y args h (XRet (MEnd B m h v S')) := by
  obtain ⟨le, e, o, h', r, v', e1, e2, e3, e4, e5, e6⟩ := a
  exact ⟨le, e, o, h', r, v', e1, e2, e3, e4, by omega, by omega⟩
/-- x has answered: how it stands for m -/
theorem LawI.mid {h0 h g : XH} {s scr L n : Int} {xs : Nat → Int} {S S' : XSt} {v : XV} {v' : Option XV} (I : LawI h0 s scr L n xs S h) (q : XEnd (s + 143) s h v S' v' g) : Rm g (s + 143) (s + 126) S ∧ CstOK g (s + 126) ∧ xty g (s + 126) = some (true, 9, none) ∧ xty g scr = some (false, 0, some L) ∧ (∀ j : Int, 0 ≤ j → j < L → xar g scr j = xar h scr j) := by
  obtain ⟨⟨R, M, O⟩, ⟨C, z, t⟩, ⟨c1, c2, c3, c4⟩, b1, b2⟩ := I
  obtain ⟨-, R', p, -⟩ := q
  have M' : Rm g (s + 143) (s + 126) S := M.far p (fun z f hz w => by omega) (fun z hz w => by omega)
  have b := R.1
  exact ⟨M', (C.keep p (by omega) (fun z f hz w => by omega) (fun z hz w => by omega)).up (by omega), M'.2.1.1, (p.2.2.1 _ (by omega)).trans c3, fun j j0 hj => p.2.2.2.2 _ _ (by omega) (fun w => by omega)⟩
/-- both have answered -/
theorem LawI.next {h0 h g k : XH} {s scr L n : Int} {xs : Nat → Int} {S S' : XSt} {v w : XV} {v' w' : Option XV} (I : LawI h0 s scr L n xs S h) (q : XEnd (s + 143) s h v S' v' g) (q2 : MEnd (s + 143) (s + 126) g w S' w' k) (O' : SOK (n + 1) S') : LawI h0 s scr L (n + 1) xs S' k := by
  obtain ⟨⟨R, M, O⟩, ⟨C, z, t⟩, ⟨c1, c2, c3, c4⟩, b1, b2⟩ := I
  obtain ⟨-, R', p, z1, l1⟩ := q
  obtain ⟨-, M', p2, z2, l2⟩ := q2
  have b := R.1
  have zg := p.2.1
  have R2 : Rx k (s + 143) s S' := R'.far O' p2 (fun z f hz w => by have := w.1; omega) (fun z hz w => by have := w.1; have := w.2; omega)
  have C1 := C.keep p (by omega) (fun z f hz w => by omega) (fun z hz w => by omega)
  have C2 := C1.keep p2 (by omega) (fun z f hz w => by have := w.1; omega) (fun z hz w => by have := w.1; omega)
  refine ⟨⟨R2, M', O'⟩, ⟨C2, (p2.2.2.1 _ (by omega)).trans ((p.2.2.1 _ (by omega)).trans z), (p2.2.2.1 _ (by omega)).trans ((p.2.2.1 _ (by omega)).trans t)⟩, ⟨c1, c2, (p2.2.2.1 _ (by omega)).trans ((p.2.2.1 _ (by omega)).trans c3), fun j hj => ⟨?_, (c4 j hj).2⟩⟩, by omega, by omega⟩
  exact (p2.2.2.2.2 _ _ (by omega) (fun w => by have := w.1; omega)).trans ((p.2.2.2.2 _ _ (by omega) (fun w => by omega)).trans (c4 j hj).1)
