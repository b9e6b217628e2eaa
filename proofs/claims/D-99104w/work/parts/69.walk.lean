/-! WALKS, 10: trouble and where -/
set_option maxRecDepth 100000
set_option maxHeartbeats 4000000
theorem SnapX.keep {W : Int → Nat → Prop} {A : Int → Prop} {h g : XH} {T : XTw} {a t : Int} {V : Int → Int} (p : XFr W A h g) (S : SnapX h T a t V) (hs : a + 3 < xsz h) (h43 : ¬ W a 43) (h44 : ¬ W a 44) (a1 : ¬ A (a + 1)) (a2 : ¬ A (a + 2)) (a3 : ¬ A (a + 3)) : SnapX g T a t V := by
  obtain ⟨s1, s2, s3, s4⟩ := S
  obtain ⟨-, -, -, p4, p5⟩ := p
  refine ⟨(p4 a 43 (by omega) h43).trans s1, fun i h0 h1 => (p5 _ i (by omega) a1).trans (s2 i h0 h1), (p4 a 44 (by omega) h44).trans s3, fun q h0 h1 => ?_⟩
  obtain ⟨m1, m2⟩ := s4 q h0 h1
  exact ⟨(p5 _ q (by omega) a2).trans m1, (p5 _ q (by omega) a3).trans m2⟩
def sSet (S : XSt) (tr wh : Int) : XSt := (S.1, S.2.1, S.2.2.1, S.2.2.2.1, (tr, wh, S.2.2.2.2.1.2.2), S.2.2.2.2.2)
abbrev W46 (s : Int) : Int → Nat → Prop := fun z f => z = s ∧ (f = 4 ∨ f = 6)
theorem Rx.tr {h g : XH} {B s tr wh n : Int} {S : XSt} (R : Rx h B s S) (O : SOK n S) (p : XFr (W46 s) xNoA h g) (h4 : xfl g s 4 = tr) (h6 : tr = 4 → xfl g s 6 = wh) : Rx g B s (sSet S tr wh) := by
  obtain ⟨⟨b0, b1, b2⟩, L, ⟨t1, t2⟩, ⟨u1, u2, u3⟩, ⟨v1, v2⟩, r, ⟨r0, r1, r2⟩, RT⟩ := R
  have ab : Above B h g := Above.of p (fun z f hz _ _ w => by have := w.1; omega) (fun z hz w => w)
  have fl : ∀ f : Nat, f ≠ 4 → f ≠ 6 → xfl g s f = xfl h s f := fun f n4 n6 => p.2.2.2.1 s f (by omega) (fun w => by omega)
  have ar : ∀ c i : Int, c < 126 → xar g (s + c) i = xar h (s + c) i := fun c i hc => p.2.2.2.2 _ i (by omega) (fun w => w)
  have f3 := fl 3 (by decide) (by decide)
  have snap : ∀ (T : XTw) (c t : Int) (V : Int → Int), 0 < c → c + 3 < 126 → SnapX h T (s + c) t V → SnapX g T (s + c) t V := fun T c t V h0 h1 q => q.keep p (by omega) (fun w => by omega) (fun w => by omega) (fun w => w) (fun w => w) (fun w => w)
  have LL : XLay g s := L.keep p (fun z f _ _ hf w => by rcases w.2 with e | e <;> rw [e] at hf <;> cases hf) (fun w => w) (fun w => w)
  refine ⟨⟨b0, b1, by have := p.2.1; omega⟩, LL, ⟨(fl 1 (by decide) (by decide)).trans t1, fun j hj => (ar 1 _ (by decide)).trans (t2 j hj)⟩, ⟨h4, h6, (fl 5 (by decide) (by decide)).trans u3⟩, ⟨(fl 7 (by decide) (by decide)).trans v1, (fl 8 (by decide) (by decide)).trans v2⟩, r, ⟨r0, r1, fun k k0 k1 => (ar 47 _ (by decide)).trans (r2 k k0 k1)⟩, ?_⟩
  clear L LL t2 r2
  unfold RxT at RT ⊢
  show (match sT S with
    | none => xfl g s 3 = 0
    | some T => TownX g B (xfl g s 3) T ∧ SnapX g T (s + 5) (xfl g s 3) (sV S) ∧ (∀ (k : Nat) (V : Int → Int), (sU S)[k]? = some V → SnapX g T (s + 50 + 4 * (((k : Int) + r) % 16)) (xfl g s 3) V) ∧ ∀ (k : Nat) (V : Int → Int), (sM S)[k]? = some V → SnapX g T (s + 114 + 4 * (k : Int)) (xfl g s 3) V)
  rw [f3]
  have hm := O.2.1.2
  clear O
  split at RT
  · next e =>
    rw [e]
    exact RT
  · next T e =>
    rw [e]
    obtain ⟨q1, q2, q3, q4⟩ := RT
    refine ⟨q1.keep ab, snap T 5 _ _ (by decide) (by decide) q2, fun k V hk => ?_, fun k V hk => ?_⟩
    · have q := q3 k V hk
      rw [Int.add_assoc] at q ⊢
      exact snap T _ _ _ (by omega) (by omega) q
    · have q := q4 k V hk
      have hk3 := (List.getElem?_eq_some_iff.mp hk).1
      rw [Int.add_assoc] at q ⊢
      exact snap T _ _ _ (by omega) (by omega) q
theorem Rx.tr2 {h : XH} {B s tr n : Int} {S : XSt} (R : Rx h B s S) (O : SOK n S) (h4 : tr ≠ 4) (w : Int) : Rx (xputf (xputf h s 4 tr) s 6 w) B s (sSet S tr (-1)) := by
  refine R.tr O ?_ ?_ (fun e => absurd e h4)
  · exact ((XFr.refl h).putf (Or.inr ⟨rfl, Or.inl rfl⟩)).putf (Or.inr ⟨rfl, Or.inr rfl⟩)
  · rw [xfl_putf, if_neg (by omega), xfl_putf, if_pos ⟨rfl, rfl⟩]
theorem SOK.set {n tr : Int} {S : XSt} (O : SOK n S) : SOK n (sSet S tr (-1)) := by
  obtain ⟨o1, o2, o3, o4, o5, o6⟩ := O
  exact ⟨o1, o2, o3, fun _ => rfl, o5, o6⟩
/-- an answer v, the state S' held, nothing made, only W, A written -/
def XAns (RR : XH → XSt → Prop) (W : Int → Nat → Prop) (A : Int → Prop) (v : Option XV) (S' : XSt) (h : XH) : XO → XH → Prop := XRet fun v' h' => v' = v ∧ RR h' S' ∧ XFr W A h h' ∧ xsz h' = xsz h ∧ xsl h' = xsl h
theorem XAns.mk {RR : XH → XSt → Prop} {W : Int → Nat → Prop} {A : Int → Prop} {v : Option XV} {S' : XSt} {h h' : XH} (h1 : RR h' S') (h2 : XFr W A h h') (h3 : xsz h' = xsz h) (h4 : xsl h' = xsl h) : XAns RR W A v S' h (.inl v) h' := ⟨v, rfl, rfl, h1, h2, h3, h4⟩
theorem x_anew {d : Nat} {h : XH} {B s n : Int} {S : XSt} (R : Rx h B s S) (O : SOK n S) : WpM d 5 [.inr (.inr s)] h (XAns (fun h' S' => Rx h' B s S') (W46 s) xNoA none (sSet S 0 (-1)) h) := by
  have ts := R.2.1.2.1
  refine WpM.of rfl (Wp.vc 400 [] rfl ?_)
  exact ⟨isW ts rfl, isW ts rfl, trivial, XAns.mk (R.tr2 O (by decide) (-1)) (((XFr.refl h).putf (Or.inr ⟨rfl, Or.inl rfl⟩)).putf (Or.inr ⟨rfl, Or.inr rfl⟩)) rfl rfl⟩
theorem x_no {d : Nat} {h : XH} {B s n k : Int} {S : XSt} (R : Rx h B s S) (O : SOK n S) (h4 : k ≠ 4) (hw : sWh S = -1) : WpM d 7 [.inr (.inr s), .inl k] h (XAns (fun h' S' => Rx h' B s S') (W46 s) xNoA (some (.inl (-1))) (sSet S k (-1)) h) := by
  have ts := R.2.1.2.1
  refine WpM.of rfl (Wp.vc 400 [] rfl ?_)
  refine ⟨isW ts rfl, trivial, XAns.mk (R.tr O ((XFr.refl h).putf (Or.inr ⟨rfl, Or.inl rfl⟩)) ?_ (fun e => absurd e h4)) ((XFr.refl h).putf (Or.inr ⟨rfl, Or.inl rfl⟩)) rfl rfl⟩
  rw [xfl_putf, if_pos ⟨rfl, rfl⟩]
theorem sSet_set (S : XSt) (a b c d : Int) : sSet (sSet S a b) c d = sSet S c d := rfl
theorem x_yes {d : Nat} {h : XH} {B s n k : Int} {S : XSt} (R : Rx h B s S) (O : SOK n S) (h4 : k ≠ 4) : WpM (d + 1) 60 [.inr (.inr s), .inl k] h (XAns (fun h' S' => Rx h' B s S') (W46 s) xNoA (some (.inl (if k = 0 then 1 else 0))) (sSet S k (-1)) h) := by
  have ts := R.2.1.2.1
  refine WpM.of rfl (Wp.vc 400 [] rfl ?_)
  refine Wp.callR (j := 0) rfl (Nat.le_of_ble_eq_true rfl) ⟨true, ts⟩ (x_anew R O) (fun v h1 q => ?_)
  obtain ⟨rfl, R1, p1, z1, z2⟩ := q
  have ts1 := R1.2.1.2.1
  have R2 : Rx (xputf h1 s 4 k) B s (sSet S k (-1)) := R1.tr (O.set) ((XFr.refl h1).putf (Or.inr ⟨rfl, Or.inl rfl⟩)) (by rw [xfl_putf, if_pos ⟨rfl, rfl⟩]) (fun e => absurd e h4)
  have p2 : XFr (W46 s) xNoA h (xputf h1 s 4 k) := p1.putf (Or.inr ⟨rfl, Or.inl rfl⟩)
  refine Wp.vc 400 [] rfl ?_
  refine ⟨isW ts1 rfl, fun c => ⟨⟨by decide, by decide⟩, ?_⟩, fun c => ⟨⟨by decide, by decide⟩, ?_⟩⟩
  · rw [if_neg c]
    exact XAns.mk R2 p2 z1 z2
  · rw [if_pos (Decidable.of_not_not c)]
    exact XAns.mk R2 p2 z1 z2
/-- the model's side -/
abbrev W678 (m : Int) : Int → Nat → Prop := fun z f => z = m ∧ (f = 66 ∨ f = 67 ∨ f = 68)
theorem Rm.tr {h g : XH} {B m tr wh : Int} {S : XSt} (R : Rm h B m S) (p : XFr (W678 m) xNoA h g) (h67 : xfl g m 67 = tr) (h68 : xfl g m 68 = wh) : Rm g B m (sSet S tr wh) := by
  obtain ⟨⟨b0, b1, b2⟩, L, ⟨t1, t2⟩, ⟨u1, u2, u3⟩, ⟨v1, v2⟩, RT⟩ := R
  have ab : Above B h g := Above.of p (fun z f hz _ _ w => by have := w.1; omega) (fun z hz w => w)
  have fl : ∀ f : Nat, f ≠ 66 → f ≠ 67 → f ≠ 68 → xfl g m f = xfl h m f := fun f n6 n7 n8 => p.2.2.2.1 m f (by omega) (fun w => by omega)
  have ar : ∀ c : Int, c < 16 → xar g (m + c) = xar h (m + c) := fun c hc => funext fun i => p.2.2.2.2 _ i (by omega) (fun w => w)
  have LL : ModelL g m := L.keep p (by omega) (fun f hf w => by rcases w.2 with e | e | e <;> rw [e] at hf <;> cases hf)
  refine ⟨⟨b0, b1, by have := p.2.1; omega⟩, LL, ⟨(fl 72 (by decide) (by decide) (by decide)).trans t1, fun j hj => by rw [ar 1 (by decide)]; exact t2 j hj⟩, ⟨h67, h68, (fl 78 (by decide) (by decide) (by decide)).trans u3⟩, ⟨(fl 85 (by decide) (by decide) (by decide)).trans v1, (fl 84 (by decide) (by decide) (by decide)).trans v2⟩, ?_⟩
  clear L LL t2
  unfold RmT at RT ⊢
  show (match sT S with
    | none => xfl g m 69 = 0
    | some T => _)
  simp only [fl 69 (by decide) (by decide) (by decide), ar 2 (by decide), ar 3 (by decide), ar 4 (by decide), ar 15 (by decide)]
  split at RT
  · next e =>
    rw [e]
    exact RT
  · next T e =>
    rw [e]
    exact ⟨RT.1.keep ab, RT.2⟩
theorem m_refused {d : Nat} {h : XH} {B m k : Int} {S : XSt} (R : Rm h B m S) : WpM d 142 [.inr (.inr m), .inl k] h (XAns (fun h' S' => Rm h' B m S') (W678 m) xNoA (some (.inl (-1))) (sSet S k (-1)) h) := by
  have tm := R.2.1.1
  have p : XFr (W678 m) xNoA h (xputf (xputf h m 67 k) m 68 (-1)) := ((XFr.refl h).putf (Or.inr ⟨rfl, Or.inr (Or.inl rfl)⟩)).putf (Or.inr ⟨rfl, Or.inr (Or.inr rfl)⟩)
  refine WpM.of rfl (Wp.vc 400 [] rfl ?_)
  refine ⟨isW tm rfl, isW tm rfl, trivial, XAns.mk (R.tr p ?_ ?_) p rfl rfl⟩
  · rw [xfl_putf, if_neg (by omega), xfl_putf, if_pos ⟨rfl, rfl⟩]
  · rw [xfl_putf, if_pos ⟨rfl, rfl⟩]
theorem m_good {d : Nat} {h : XH} {B m k : Int} {S : XSt} (R : Rm h B m S) : WpM d 174 [.inr (.inr m), .inl k] h (XAns (fun h' S' => Rm h' B m S') (W678 m) xNoA (some (.inl k)) (sSet S 0 (-1)) h) := by
  have tm := R.2.1.1
  have p : XFr (W678 m) xNoA h (xputf (xputf h m 67 0) m 68 (-1)) := ((XFr.refl h).putf (Or.inr ⟨rfl, Or.inr (Or.inl rfl)⟩)).putf (Or.inr ⟨rfl, Or.inr (Or.inr rfl)⟩)
  refine WpM.of rfl (Wp.vc 400 [] rfl ?_)
  refine ⟨isW tm rfl, isW tm rfl, trivial, XAns.mk (R.tr p ?_ ?_) p rfl rfl⟩
  · rw [xfl_putf, if_neg (by omega), xfl_putf, if_pos ⟨rfl, rfl⟩]
  · rw [xfl_putf, if_pos ⟨rfl, rfl⟩]
