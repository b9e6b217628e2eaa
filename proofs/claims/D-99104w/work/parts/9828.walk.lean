/-! WALKS, 67: WrongRoom's reader: what is taken of a line -/
set_option maxRecDepth 100000
set_option maxHeartbeats 4000000
/-- where a reading stands: s, the first cell of its own, slots before it, tape, its bytes, the heap it began at -/
abbrev XX : Type := Int × Int × Int × List Int × Int × XH
def ks (K : XX) : Int := K.1
def kz (K : XX) : Int := K.2.1
def ky (K : XX) : Int := K.2.2.1
def kt (K : XX) : List Int := K.2.2.2.1
def kn (K : XX) : Int := K.2.2.2.2.1
def kh (K : XX) : XH := K.2.2.2.2.2
abbrev WT (s z0 : Int) : Int → Nat → Prop := fun z f => (z = s + 2 ∧ 25 ≤ f ∧ f ≤ 31) ∨ (z = s + 3 ∧ (f = 38 ∨ f = 39)) ∨ z0 ≤ z
abbrev AT (s z0 : Int) : Int → Prop := fun z => z = s + 4 ∨ z0 ≤ z
def FrT (s z0 : Int) (h g : XH) : Prop := XFr (WT s z0) (AT s z0) h g
theorem FrT.refl {s z0 : Int} (h : XH) : FrT s z0 h h := XFr.refl h
theorem FrT.trans {s z0 : Int} {h g k : XH} (p : FrT s z0 h g) (q : FrT s z0 g k) : FrT s z0 h k := XFr.trans p q (fun _ _ _ w => w) (fun _ _ w => w)
theorem FrL.t {s z0 : Int} {h g : XH} (p : FrL s z0 h g) : FrT s z0 h g := XFr.mono p (fun z f _ w => by
  rcases w with w | w | w
  · exact Or.inl ⟨w.1, w.2.1, by omega⟩
  · exact Or.inr (Or.inl w)
  · exact Or.inr (Or.inr w.1)) (fun z _ w => Or.inl w)
theorem XC.keepT {s z0 : Int} {tp : List Int} {n : Int} {h g : XH} (p : FrT s z0 h g) (C : XC s z0 tp n h) : XC s z0 tp n g := C.keepW p (fun z f hz w => by
  rcases w with q | q | q
  · exact Or.inl ⟨q.1, q.2.1⟩
  · exact Or.inr q
  · omega) (fun z hz w => by
  rcases w with q | q
  · exact q
  · omega)
def XZ (K : XX) (c : Int) (h : XH) (l : LTk) : Prop := XRd (ks K) (kz K) (ky K) c (kt K) (kn K) h l ∧ FrT (ks K) (kz K) (kh K) h ∧ LOK (kn K) l
def XFl (K : XX) (c : Int) (f : Int × Int) (h : XH) : Prop := XC (ks K) (kz K) (kt K) (kn K) h ∧ FrT (ks K) (kz K) (kh K) h ∧ (xfl h (ks K + 3) 38 = f.1 ∧ xfl h (ks K + 3) 39 = f.2) ∧ xsz h ≤ kz K + 2 * kn K + c ∧ xsl h ≤ ky K + 12 * (kn K + c)
def XEn {α : Type} (K : XX) (c : Int) (r : Re α) (post : α → Option XV → XH → Prop) : XO → XH → Prop := fun o h' => match r with
  | .inl a => ∃ v, o = .inl v ∧ post a v h'
  | .inr f => o = .inr (ks K + 3) ∧ XFl K c f h'
theorem XEn.ret {α : Type} {K : XX} {c : Int} {r : Re α} {post : α → Option XV → XH → Prop} {a : α} {v : Option XV} {h : XH} (e : r = .inl a) (p : post a v h) : XEn K c r post (.inl v) h := by
  rw [e]
  exact ⟨v, rfl, p⟩
theorem XZ.c {K : XX} {c : Int} {h : XH} {l : LTk} (R : XZ K c h l) : XC (ks K) (kz K) (kt K) (kn K) h := R.1.1.1
theorem XZ.tr {K : XX} {c : Int} {h : XH} {l : LTk} (R : XZ K c h l) : xty h (ks K + 2) = some (true, 1, none) := R.1.1.1.2.1.1
/-- throw fail(f) -/
theorem XZ.failK {α : Type} {d M pc np : Nat} {ls : XL} {st rest : XS} {K : XX} {c f : Int} {h : XH} {l : LTk} {r : Re α} {post : α → Option XV → XH → Prop} (R : XZ K c h l) (er : r = .inr (f, la l)) (e : xstK M pc 0 st = some (np, some 1, 80, [.inr (.inr (ks K + 2)), .inl f], rest)) (hw : xwords rest ≤ 8) (et : xcode M np = some (.inr (.inr (.inr (.inr (.inr ())))))) (hh : xhnd M = []) : Wp (d + 2) M pc ls st h (XEn K c r post) := by
  have tr := R.tr
  have C := R.c
  obtain ⟨b0, b1, b2⟩ := C.1
  have f21 : xfl h (ks K + 2) 21 = ks K + 3 := C.2.1.2.2.2.1.trans (by omega)
  have f27 := R.1.2.2.2.1
  have t3 : xty h (ks K + 3) = some (true, 2, none) := by
    have := C.2.1.2.1
    rwa [show ks K + 2 + 1 = ks K + 3 by omega] at this
  have p : FrL (ks K) (kz K) h (xputf (xputf h (ks K + 3) 38 f) (ks K + 3) 39 (la l)) := XFr.putf (XFr.putf (XFr.refl h) (Or.inr (Or.inr (Or.inl ⟨rfl, Or.inl rfl⟩)))) (Or.inr (Or.inr (Or.inl ⟨rfl, Or.inr rfl⟩)))
  have at_ : WpM d 104 [.inr (.inr (ks K + 3)), .inl f, .inl (la l)] h (XE (some (.inr (.inr (ks K + 3)))) (xputf (xputf h (ks K + 3) 38 f) (ks K + 3) 39 (la l))) := by
    refine WpM.of rfl (Wp.vc 400 [] rfl ?_)
    exact ⟨isW t3 rfl, isW t3 rfl, trivial, rfl, rfl⟩
  have fl : WpM (d + 1) 80 [.inr (.inr (ks K + 2)), .inl f] h (XE (some (.inr (.inr (ks K + 3)))) (xputf (xputf h (ks K + 3) 38 f) (ks K + 3) 39 (la l))) := by
    refine WpM.of rfl (Wp.vc 400 [] rfl ?_)
    rw [f21, f27]
    refine ⟨isF tr rfl, isF tr rfl, ?_⟩
    refine Wp.callE (j := 0) rfl (Nat.le_of_ble_eq_true rfl) ⟨true, t3⟩ at_ ?_
    refine Wp.vc 400 [] rfl ?_
    exact ⟨trivial, rfl, rfl⟩
  refine Wp.callE e hw ⟨true, tr⟩ fl ?_
  refine Wp.throw et (c := 2) t3 (fun q hq => by rw [hh] at hq; cases hq) ?_
  rw [er]
  have bn := R.1.1.2.2
  have ln := R.2.2.1
  refine ⟨rfl, C.keep p, R.2.1.trans p.t, ⟨?_, ?_⟩, ?_, ?_⟩
  · rw [xfl_putf, if_neg (fun w => absurd w.2 (by decide)), xfl_putf, if_pos ⟨rfl, rfl⟩]
  · rw [xfl_putf, if_pos ⟨rfl, rfl⟩]
  · show xsz h ≤ _
    omega
  · show xsl h ≤ _
    omega
/-- a call whose exception goes on -/
theorem XEn.bind {α β : Type} {d M pc j np y : Nat} {ls : XL} {st args rest : XS} {g : Option Nat} {K : XX} {c : Int} {h : XH} {r : Re α} {k : α → Re β} {R : Re β} {pa : α → Option XV → XH → Prop} {pb : β → Option XV → XH → Prop} (e : xstK M pc j st = some (np, g, y, args, rest)) (hw : xwords rest ≤ 8) (hr : xrecv h g args) (hm : WpM d y args h (XEn K c r pa)) (hh : xhnd M = []) (eR : R = rb r k)
    (cont : ∀ (a : α) (v : Option XV) (h1 : XH), r = .inl a → pa a v h1 → Wp (d + 1) M np ls (xpush v rest) h1 (XEn K c (k a) pb)) : Wp (d + 1) M pc ls st h (XEn K c R pb) := by
  subst eR
  refine Wp.callX e hw hr hm (fun v h1 q => ?_) (fun q h1 w => ?_)
  · cases hre : r with
    | inl a =>
      rw [hre] at q
      obtain ⟨v', e1, q⟩ := q
      cases e1
      exact cont a v h1 hre q
    | inr f =>
      rw [hre] at q
      cases q.1
  · cases hre : r with
    | inl a =>
      rw [hre] at w
      obtain ⟨v', e1, -⟩ := w
      cases e1
    | inr f =>
      rw [hre] at w
      obtain ⟨e1, w⟩ := w
      cases e1
      refine ⟨2, ?_, Or.inl ⟨fun q hq => (by rw [hh] at hq; cases hq), (show XEn K c (rb (.inr f) k) pb (.inr (ks K + 3)) h1 from ⟨rfl, w⟩)⟩⟩
      have := w.1.2.1.2.1
      rwa [show ks K + 2 + 1 = ks K + 3 by omega] at this
/-- next() -/
theorem XZ.nextK {d M pc np : Nat} {ls : XL} {st rest : XS} {K : XX} {c : Int} {h : XH} {l : LTk} {Q : XO → XH → Prop} (R : XZ K c h l) (e : xstK M pc 0 st = some (np, some 1, 75, [.inr (.inr (ks K + 2))], rest)) (hw : xwords rest ≤ 8) (cont : ∀ h1, XZ K c h1 (ga (kt K) (kn K) l) → FrL (ks K) (kz K) h h1 → Wp (d + 5) M np ls rest h1 Q) : Wp (d + 5) M pc ls st h Q := by
  have ln := R.2.2.1
  refine Wp.callR e hw ⟨true, R.tr⟩ (x_next R.1.1 ⟨by omega, by omega⟩) (fun v h1 q => ?_)
  obtain ⟨rfl, q1, q2⟩ := q
  exact cont h1 ⟨q1, R.2.1.trans q2.t, (nxt_ok ⟨by omega, by omega⟩).1⟩ q2
theorem FrL.above {s z0 : Int} {h g : XH} (p : FrL s z0 h g) (hz : s + 126 ≤ z0) : Above z0 h g := Above.of p (fun z f hz _ _ w => by
  rcases w with w | w | w <;> omega) (fun z hz w => by have : z = s + 4 := w; omega)
theorem XZ.word {K : XX} {c : Int} {h : XH} {l : LTk} (R : XZ K c h l) (e : lk l = 2) : StrV h (xfl h (ks K + 2) 29) (lw l) ∧ StrX h (kz K) (xfl h (ks K + 2) 29) (lw l) ∧ HashOK h (xfl h (ks K + 2) 29) (lw l) ∧ xword (lw l) := by
  have q := R.1.2.2.2.2.2 e
  have w := (R.2.2.2.2.2.1 e).1
  exact ⟨q.1.v w.2.1, q.1, q.2, w⟩
theorem XZ.cst {K : XX} {c : Int} {h : XH} {l : LTk} (R : XZ K c h l) (k : Nat) (hk : k < 41) : StrV h (xcs h k) (cw k) := (R.1.1.1.2.2.2.2.1 k hk).1
theorem x_takes {d : Nat} {K : XX} {c : Int} {h : XH} {l : LTk} {k : Nat} (R : XZ K c h l) (hk : k < 41) : WpM (d + 5) 84 [.inr (.inr (ks K + 2)), .inr (.inr (xcs h k))] h (XRet fun v h' => ((lk l = 2 ∧ lw l = cw k) ∧ v = some (.inl 1) ∧ XZ K c h' (ga (kt K) (kn K) l) ∧ FrL (ks K) (kz K) h h') ∨ (¬ (lk l = 2 ∧ lw l = cw k) ∧ v = some (.inl 0) ∧ h' = h)) := by
  have tr := R.tr
  have f26 := R.1.2.2.1
  refine WpM.of rfl (Wp.vc 400 [19] rfl ?_)
  rw [f26]
  refine ⟨isF tr rfl, fun q => ?_, fun q => ⟨isF tr rfl, ?_⟩⟩
  · refine Wp.vc 400 [] rfl ?_
    exact ⟨⟨by decide, by decide⟩, _, rfl, Or.inr ⟨fun w => q w.1, rfl, rfl⟩⟩
  · have q := Decidable.of_not_not q
    refine Wp.callE (j := 0) rfl (Nat.le_of_ble_eq_true rfl) ⟨_, (R.word q).1.1.choose_spec⟩ (x_equals (R.word q).1 (R.cst k hk)) ?_
    by_cases w : lw l = cw k
    · rw [if_pos w]
      refine Wp.vc 400 [19] rfl ?_
      refine ⟨fun _ => ?_, fun c => absurd (show ¬ (1 : Int) = 0 by decide) c⟩
      refine R.nextK rfl (Nat.le_of_ble_eq_true rfl) (fun h1 R1 p1 => ?_)
      refine Wp.vc 400 [] rfl ?_
      exact ⟨⟨by decide, by decide⟩, _, rfl, Or.inl ⟨⟨q, w⟩, rfl, R1, p1⟩⟩
    · rw [if_neg w]
      refine Wp.vc 400 [19] rfl ?_
      refine ⟨fun c => absurd rfl c, fun _ => ?_⟩
      refine Wp.vc 400 [] rfl ?_
      exact ⟨⟨by decide, by decide⟩, _, rfl, Or.inr ⟨fun z => w z.2, rfl, rfl⟩⟩
theorem x_must {d : Nat} {K : XX} {c : Int} {h : XH} {l : LTk} {k : Nat} (R : XZ K c h l) (hk : k < 41) : WpM (d + 6) 83 [.inr (.inr (ks K + 2)), .inr (.inr (xcs h k))] h (XEn K c (rMust (kt K) (kn K) (cw k) l) (fun l' v h' => v = none ∧ XZ K c h' l' ∧ FrL (ks K) (kz K) h h')) := by
  have tr := R.tr
  unfold rMust
  refine WpM.of rfl (Wp.vc 400 [] rfl ?_)
  refine Wp.callR (j := 0) rfl (Nat.le_of_ble_eq_true rfl) ⟨true, tr⟩ (x_takes (d := d) R hk) (fun v h1 q => ?_)
  rcases q with ⟨w, rfl, R1, p1⟩ | ⟨w, rfl, rfl⟩
  · rw [if_pos w]
    refine Wp.vc 400 [] rfl ?_
    exact ⟨fun _ => ⟨trivial, XEn.ret rfl ⟨rfl, R1, p1⟩⟩, fun c => absurd (show ¬ (1 : Int) = 0 by decide) c⟩
  · rw [if_neg w]
    refine Wp.vc 400 [] rfl ?_
    refine ⟨fun c => absurd rfl c, fun _ => ?_⟩
    exact R.failK rfl rfl (Nat.le_of_ble_eq_true rfl) rfl rfl
theorem x_number {d : Nat} {K : XX} {c lo hi : Int} {h : XH} {l : LTk} (R : XZ K c h l) : WpM (d + 5) 85 [.inr (.inr (ks K + 2)), .inl lo, .inl hi] h (XEn K c (rNum (kt K) (kn K) lo hi l) (fun q v h' => v = some (.inl q.1) ∧ XZ K c h' q.2 ∧ FrL (ks K) (kz K) h h')) := by
  have tr := R.tr
  have f26 := R.1.2.2.1
  unfold rNum
  refine WpM.of rfl (Wp.vc 400 [] rfl ?_)
  rw [f26]
  refine ⟨isF tr rfl, fun q => ?_, fun q => ?_⟩
  · rw [if_neg (fun w => w q)]
    have f28 := R.1.2.2.2.2.1 q
    rw [f28]
    refine ⟨isF tr rfl, ?_⟩
    refine Wp.callE (j := 0) rfl (Nat.le_of_ble_eq_true rfl) trivial (x_in (lv l) lo hi) ?_
    by_cases b : lo ≤ lv l ∧ lv l ≤ hi
    · rw [if_pos b, if_pos b]
      refine Wp.vc 400 [] rfl ?_
      rw [f28]
      refine ⟨fun _ => ⟨isF tr rfl, ?_⟩, fun c => absurd (show ¬ (1 : Int) = 0 by decide) c⟩
      refine R.nextK rfl (Nat.le_of_ble_eq_true rfl) (fun h1 R1 p1 => ?_)
      refine Wp.vc 400 [] rfl ?_
      exact ⟨trivial, XEn.ret rfl ⟨rfl, R1, p1⟩⟩
    · rw [if_neg b, if_neg b]
      refine Wp.vc 400 [] rfl ?_
      refine ⟨fun c => absurd rfl c, fun _ => ?_⟩
      exact R.failK rfl rfl (Nat.le_of_ble_eq_true rfl) rfl rfl
  · rw [if_pos q]
    exact R.failK rfl rfl (Nat.le_of_ble_eq_true rfl) rfl rfl
theorem x_after {d : Nat} {K : XX} {c lo hi : Int} {h : XH} {l : LTk} {k : Nat} (R : XZ K c h l) (hk : k < 41) : WpM (d + 7) 82 [.inr (.inr (ks K + 2)), .inr (.inr (xcs h k)), .inl lo, .inl hi] h (XEn K c (rAft (kt K) (kn K) (cw k) lo hi l) (fun q v h' => v = some (.inl q.1) ∧ XZ K c h' q.2 ∧ FrL (ks K) (kz K) h h')) := by
  have tr := R.tr
  unfold rAft
  refine WpM.of rfl (Wp.vc 400 [] rfl ?_)
  refine XEn.bind (j := 0) rfl (Nat.le_of_ble_eq_true rfl) ⟨true, tr⟩ (x_must (d := d) R hk) rfl rfl (fun l1 v h1 e q => ?_)
  obtain ⟨rfl, R1, p1⟩ := q
  refine Wp.vc 400 [] rfl ?_
  refine XEn.bind (k := fun q => .inl q) (j := 0) rfl (Nat.le_of_ble_eq_true rfl) ⟨true, R1.tr⟩ (x_number (d := d + 1) R1) rfl (by cases rNum (kt K) (kn K) lo hi l1 <;> rfl) (fun q v h2 e q2 => ?_)
  obtain ⟨rfl, R2, p2⟩ := q2
  refine Wp.vc 400 [] rfl ?_
  exact ⟨trivial, XEn.ret rfl ⟨rfl, R2, p1.trans p2⟩⟩
theorem x_anyWord {d : Nat} {K : XX} {c : Int} {h : XH} {l : LTk} (R : XZ K c h l) : WpM (d + 5) 90 [.inr (.inr (ks K + 2))] h (XEn K c (rWord (kt K) (kn K) l) (fun q v h' => (∃ a, v = some (.inr (.inr a)) ∧ StrX h' (kz K) a q.1) ∧ XZ K c h' q.2 ∧ FrL (ks K) (kz K) h h')) := by
  have tr := R.tr
  have f26 := R.1.2.2.1
  unfold rWord
  refine WpM.of rfl (Wp.vc 400 [] rfl ?_)
  rw [f26]
  refine ⟨isF tr rfl, fun q => ?_, fun q => ?_⟩
  · rw [if_pos q]
    refine ⟨isF tr rfl, ?_⟩
    refine R.nextK rfl (Nat.le_of_ble_eq_true rfl) (fun h1 R1 p1 => ?_)
    refine Wp.vc 400 [] rfl ?_
    exact ⟨trivial, XEn.ret rfl ⟨⟨_, rfl, (R.word q).2.1.keep (p1.above R.c.1.2.1)⟩, R1, p1⟩⟩
  · rw [if_neg q]
    exact R.failK rfl rfl (Nat.le_of_ble_eq_true rfl) rfl rfl
