/-! WALKS, 77: WrongRoom's reader: lines that make something -/
set_option maxRecDepth 100000
set_option maxHeartbeats 4000000
theorem XEn.mono {α : Type} {K : XX} {c c' : Int} {r : Re α} {post : α → Option XV → XH → Prop} (hc : c ≤ c') {o : XO} {h : XH} (q : XEn K c r post o h) : XEn K c' r post o h := by
  cases r with
  | inl a => exact q
  | inr f =>
    obtain ⟨e, a, b, c1, z1, z2⟩ := q
    exact ⟨e, a, b, c1, by omega, by omega⟩
theorem WpM.up {α : Type} {K : XX} {c c' : Int} {r : Re α} {post : α → Option XV → XH → Prop} {d y : Nat} {args : XS} {h : XH} (hm : WpM d y args h (XEn K c r post)) (hc : c ≤ c') : WpM d y args h (XEn K c' r post) := hm.imp (fun _ _ q => q.mono hc)
theorem Above.trans {B : Int} {h g k : XH} (p : Above B h g) (q : Above B g k) : Above B h k := by
  refine ⟨Int.le_trans p.1 q.1, fun z hz hs => ?_⟩
  have a := p.2 z hz hs
  have b := q.2 z hz (Int.lt_of_lt_of_le hs p.1)
  exact ⟨b.1.trans a.1, fun f n2 n3 => (b.2.1 f n2 n3).trans (a.2.1 f n2 n3), fun i => (b.2.2 i).trans (a.2.2 i)⟩
theorem Above.pf {B a v : Int} {f : Nat} {h g : XH} (p : Above B h g) (ha : xsz h ≤ a) : Above B h (xputf g a f v) := by
  refine ⟨p.1, fun z hz hs => ⟨(p.2 z hz hs).1, fun f' n2 n3 => ?_, (p.2 z hz hs).2.2⟩⟩
  rw [xfl_putf, if_neg (by omega)]
  exact (p.2 z hz hs).2.1 f' n2 n3
theorem Above.new {B : Int} {cl n : Nat} {h g : XH} (p : Above B h g) : Above B h (xnewo g cl n) := by
  have p1 := p.1
  refine ⟨by rw [xsz_newo]; omega, fun z hz hs => ⟨?_, fun f' n2 n3 => ?_, (p.2 z hz hs).2.2⟩⟩
  · rw [xty_newo, if_neg (by omega)]
    exact (p.2 z hz hs).1
  · rw [xfl_newo, if_neg (by omega)]
    exact (p.2 z hz hs).2.1 f' n2 n3
/-- an object that is made -/
def Obj (z0 : Int) (h : XH) (a : Int) (cl : Nat) (F : Nat → Int) : Prop := CellX h z0 a (true, cl, none) ∧ ∀ f, f < 160 → xfl h a f = F f
theorem Obj.keep {z0 a : Int} {h g : XH} {cl : Nat} {F : Nat → Int} (p : Above z0 h g) (O : Obj z0 h a cl F) : Obj z0 g a cl F := ⟨O.1.keep p, fun f hf => (O.1.fl p f (by omega) (by omega)).trans (O.2 f hf)⟩
theorem Obj.put {z0 a v : Int} {h : XH} {cl f : Nat} {F : Nat → Int} (O : Obj z0 h a cl F) : Obj z0 (xputf h a f v) a cl (fun q => if q = f then v else F q) := by
  refine ⟨O.1, fun q hq => ?_⟩
  rw [xfl_putf]
  show _ = if q = f then v else F q
  by_cases e : q = f
  · rw [if_pos ⟨rfl, e⟩, if_pos e]
  · rw [if_neg (fun w => e w.2), if_neg e]
    exact O.2 q hq
theorem Obj.new {z0 : Int} {h : XH} {cl n : Nat} (hz : z0 ≤ xsz h) : Obj z0 (xnewo h cl n) (xsz h) cl (fun _ => 0) := by
  refine ⟨⟨hz, by rw [xsz_newo]; omega, by rw [xty_newo, if_pos rfl]⟩, fun f _ => ?_⟩
  rw [xfl_newo, if_pos rfl]
/-- a line that makes a thing: the town stands as at h0; what is made is at a, behind h0 -/
def XM (K : XX) (c : Int) (h0 h : XH) (l : LTk) (P : PT) (t a : Int) (cl : Nat) (F : Nat → Int) : Prop := XZ K c h l ∧ (XTn (kz K) h0 t P ∧ NI P ∧ Above (kz K) h0 h ∧ xsz h0 ≤ a) ∧ (xfl h (ks K + 2) 30 = t ∧ xfl h (ks K + 2) 31 = (if tsc (pT P) 0 = 0 then 0 else 1)) ∧ xty h 0 = none ∧ Obj (kz K) h a cl F
theorem XM.new {K : XX} {c : Int} {h : XH} {l : LTk} {P : PT} {cl n : Nat} (R : XZ K c h l) (X : XRt K h P) (N : NI P) (hn : n ≤ 12) : XM K (c + 1) h (xnewo h cl n) l P (xfl h (ks K + 2) 30) (xsz h) cl (fun _ => 0) := by
  have zz := R.c.1
  refine ⟨R.new hn, ⟨X.1, N, (Above.refl h).new, Int.le_refl _⟩, ⟨?_, ?_⟩, ?_, Obj.new zz.2.2⟩
  · rw [xfl_newo, if_neg (by omega)]
  · rw [xfl_newo, if_neg (by omega)]
    exact X.2.1
  · rw [xty_newo, if_neg (by omega)]
    exact X.2.2
theorem XM.fl {K : XX} {c : Int} {h0 h g : XH} {l l' : LTk} {P : PT} {t a : Int} {cl : Nat} {F : Nat → Int} (M : XM K c h0 h l P t a cl F) (R : XZ K c g l') (p : FrL (ks K) (kz K) h g) : XM K c h0 g l' P t a cl F := by
  have zz := M.1.c.1
  obtain ⟨-, ⟨X, N, ab, ha⟩, ⟨f30, f31⟩, nz, O⟩ := M
  have A := p.above zz.2.1
  exact ⟨R, ⟨X, N, ab.trans A, ha⟩, ⟨(p.f3 zz (by decide)).trans f30, (p.f3 zz (by decide)).trans f31⟩, (p.2.2.1 0 (by omega)).trans nz, O.keep A⟩
theorem XM.put {K : XX} {c v : Int} {h0 h : XH} {l : LTk} {P : PT} {t a : Int} {cl f : Nat} {F : Nat → Int} (M : XM K c h0 h l P t a cl F) (hf : f < 160) : XM K c h0 (xputf h a f v) l P t a cl (fun q => if q = f then v else F q) ∧ FrD K h (xputf h a f v) := by
  have zz := M.1.c.1
  have a0 := M.2.2.2.2.1.1
  have p : FrD K h (xputf h a f v) := FrD.putf a0 hf
  obtain ⟨R, ⟨X, N, ab, ha⟩, ⟨f30, f31⟩, nz, O⟩ := M
  refine ⟨⟨R.put p, ⟨X, N, ab.pf ha, ha⟩, ⟨?_, ?_⟩, nz, O.put⟩, p⟩
  · rw [xfl_putf, if_neg (by omega)]
    exact f30
  · rw [xfl_putf, if_neg (by omega)]
    exact f31
theorem XM.q {K : XX} {c : Int} {h0 h : XH} {l : LTk} {P : PT} {t a : Int} {cl : Nat} {F : Nat → Int} (M : XM K c h0 h l P t a cl F) : XQ K c h l P t := ⟨M.1, M.2.1.1.keep M.2.1.2.2.1 M.2.1.2.1, M.2.2.1.1, M.2.2.2.1⟩
theorem x_Sign_init {d : Nat} {h : XH} {a i b : Int} (ta : xty h a = some (true, 13, none)) : WpM (d + 1) 287 [.inr (.inr a), .inl i, .inr (.inr b)] h (XE none (xputf (xputf h a 130 i) a 131 b)) := by
  have n : WpM d 286 [.inr (.inr a), .inl i] h (XE none (xputf h a 130 i)) := by
    refine WpM.of rfl (Wp.vc 400 [] rfl ?_)
    exact ⟨⟨_, _, ta⟩, isW ta rfl, trivial, rfl, rfl⟩
  refine WpM.of rfl (Wp.vc 400 [] rfl ?_)
  refine Wp.callE (j := 0) rfl (Nat.le_of_ble_eq_true rfl) ⟨true, ta⟩ n ?_
  have ta' : xty (xputf h a 130 i) a = some (true, 13, none) := ta
  refine Wp.vc 400 [] rfl ?_
  exact ⟨isW ta' rfl, trivial, rfl, rfl⟩
theorem x_Noise_init {d : Nat} {h : XH} {a i v : Int} (ta : xty h a = some (true, 14, none)) : WpM (d + 1) 289 [.inr (.inr a), .inl i, .inl v] h (XE none (xputf (xputf h a 130 i) a 132 v)) := by
  have n : WpM d 286 [.inr (.inr a), .inl i] h (XE none (xputf h a 130 i)) := by
    refine WpM.of rfl (Wp.vc 400 [] rfl ?_)
    exact ⟨⟨_, _, ta⟩, isW ta rfl, trivial, rfl, rfl⟩
  refine WpM.of rfl (Wp.vc 400 [] rfl ?_)
  refine Wp.callE (j := 1) rfl (Nat.le_of_ble_eq_true rfl) ⟨true, ta⟩ n ?_
  have ta' : xty (xputf h a 130 i) a = some (true, 14, none) := ta
  refine Wp.vc 400 [] rfl ?_
  exact ⟨isW ta' rfl, trivial, rfl, rfl⟩
/-- note(): put behind what is noticed -/
theorem x_noteP {d : Nat} {K : XX} {c : Int} {h : XH} {l : LTk} {P : PT} {t a e : Int} {cl : Nat} (Q : XQ K c h l P t) (I : PI P e) (ca : CellX h (kz K) a (true, cl, none)) (hcl : cl = 13 ∨ cl = 14) (lt : ((tnt (pT P)).length : Int) < 12) : WpM (d + 1) 98 [.inr (.inr (ks K + 2)), .inr (.inr a)] h (XE none (xputa h (xfl h t 107) ((tnt (pT P)).length : Int) a)) := by
  have tr := Q.1.tr
  have tt := Q.tt.1
  have a7 := Q.2.1.1.2.1.2.2.1.2.2
  have s6 : xfl h t 115 = tsc (pT P) 6 := Q.2.1.1.2.2.1.2.2.2.2.2.2.1
  have s7 : xfl h t 116 = tsc (pT P) 7 := Q.2.1.1.2.2.1.2.2.2.2.2.2.2
  obtain ⟨z1, z2, z3, z4, z5⟩ := I.2.2.2.2.2.2.2.2.2.2.2.1
  have nm : WpM d 259 [.inr (.inr t)] h (XE (some (.inl ((tnt (pT P)).length : Int))) h) := by
    refine WpM.of rfl (Wp.vc 400 [] rfl ?_)
    rw [s6, s7]
    exact ⟨isF tt rfl, isF tt rfl, ⟨by omega, by omega⟩, trivial, by rw [show tsc (pT P) 6 + tsc (pT P) 7 = ((tnt (pT P)).length : Int) by omega], rfl⟩
  refine WpM.of rfl (Wp.vc 400 [] rfl ?_)
  rw [Q.2.2.1]
  refine ⟨isF tr rfl, isF tt rfl, isF tr rfl, ?_⟩
  refine Wp.callE (j := 0) rfl (Nat.le_of_ble_eq_true rfl) ⟨true, tt⟩ nm ?_
  refine Wp.vc 400 [] rfl ?_
  exact ⟨isS a7 (by omega) lt ca.2.2 (by rcases hcl with rfl | rfl <;> rfl), trivial, rfl, rfl⟩
theorem x_signLine {d : Nat} {K : XX} {c : Int} {h : XH} {l : LTk} {P : PT} (R : XZ K c h l) (X : XRt K h P) (I : PI P (le_ l)) : WpM (d + 8) 97 [.inr (.inr (ks K + 2))] h (XLin K (c + 1) (lSign (kt K) (kn K) P l)) := by
  have zz := R.c.1
  have h30 : XQ K c h l P (xfl h (ks K + 2) 30) := XQ.of R X
  have s6 : xfl h (xfl h (ks K + 2) 30) 115 = tsc (pT P) 6 := X.1.1.2.2.1.2.2.2.2.2.2.1
  have tr := R.tr
  have tt := h30.tt
  unfold lSign
  have at18 : ∀ z : Int, z = (if tsc (pT P) 6 < 8 then 1 else 0) → Wp (d + 8) 97 18 [some (.inr (.inr (ks K + 2))), none] [.inl z, .inr (.inr (ks K + 2))] h (XLin K (c + 1) (rb (rBegins (kt K) (kn K) (tsc (pT P) 6 < 8) (pT P) l) fun l1 => rb (rHouse (kt K) (kn K) P l1) fun h => rb (rWord (kt K) (kn K) h.2) fun w => .inl ((scp (ntp (pT P) (h.1, 0, xpack w.1)) 6 (tsc (pT P) 6 + 1), P.2), w.2))) := by
    intro z hz
    refine XEn.bind (j := 0) rfl (Nat.le_of_ble_eq_true rfl) ⟨true, tr⟩ ((x_begins (d := d + 2) R X hz).up (c' := c + 1) (by omega)) rfl rfl (fun l1 v h1 e1 q => ?_)
    obtain ⟨rfl, R1, p1⟩ := q
    have X1 := X.keep p1 zz I.1
    have lt8 := (rBegins_inv e1).1
    refine Wp.vc 400 [] rfl ?_
    refine XEn.bind (j := 0) rfl (Nat.le_of_ble_eq_true rfl) ⟨true, R1.tr⟩ ((x_house (d := d) R1 X1 I.o).up (c' := c + 1) (by omega)) rfl rfl (fun hq v h2 e2 q => ?_)
    obtain ⟨⟨rfl, i0⟩, R2, p2⟩ := q
    have X2 := X1.keep p2 R1.c.1 I.1
    have H2 := X2.1.1.2.2.2.1 hq.1 i0.1 i0.2
    have M := XM.new (cl := 13) (n := 2) R2 X2 I.1 (by decide)
    rw [show xar h2 (xfl h2 (xfl h2 (ks K + 2) 30) 105) hq.1 = hou K h2 hq.1 from rfl] at H2
    have num := H2.2.1.1
    have th := H2.1.2.2
    obtain ⟨t, ht⟩ : ∃ t, t = xfl h2 (ks K + 2) 30 := ⟨_, rfl⟩
    rw [← ht] at M
    obtain ⟨a, ha⟩ : ∃ a, a = xsz h2 := ⟨_, rfl⟩
    refine Wp.vc 400 [30] rfl ?_
    rw [num]
    refine ⟨isF th rfl, ?_⟩
    refine Wp.vc 400 [] rfl ?_
    rw [← ha] at M ⊢
    generalize xnewo h2 13 2 = h3 at M ⊢
    refine XEn.bind (j := 0) rfl (Nat.le_of_ble_eq_true rfl) ⟨true, M.1.tr⟩ (x_anyWord (d := d + 2) M.1) rfl rfl (fun w v h4 e4 q => ?_)
    obtain ⟨⟨b, rfl, sb⟩, R4, p4⟩ := q
    have M4 := M.fl R4 p4
    obtain ⟨-, xw, -⟩ := rWord_inv e4 M.1.2.2
    have ca := M4.2.2.2.2.1
    refine Wp.vc 400 [] rfl ?_
    refine Wp.callE (j := 0) rfl (Nat.le_of_ble_eq_true rfl) ⟨true, ca.2.2⟩ (x_Sign_init ca.2.2) ?_
    obtain ⟨M5, d5⟩ := M4.put (f := 130) (v := hq.1) (by decide)
    obtain ⟨M6, d6⟩ := M5.put (f := 131) (v := b) (by decide)
    have s6b : StrX (xputf (xputf h4 a 130 hq.1) a 131 b) (kz K) b w.1 := (sb.d d5 zz.2.1).d d6 zz.2.1
    generalize xputf (xputf h4 a 130 hq.1) a 131 b = h6 at *
    have Q6 := M6.q
    have O6 := M6.2.2.2.2
    obtain ⟨z1, z2, z3, z4, z5⟩ := I.2.2.2.2.2.2.2.2.2.2.2.1
    have nt := x_noteP (d := d + 6) Q6 I O6.1 (Or.inl rfl) (by omega)
    refine Wp.vc 400 [] rfl ?_
    refine Wp.callE (j := 0) rfl (Nat.le_of_ble_eq_true rfl) ⟨true, M6.1.tr⟩ nt ?_
    have NX : NoteX h6 (kz K) a (hq.1, 0, xpack w.1) := by
      refine ⟨O6.2 130 (by decide), Or.inl ⟨rfl, O6.1, w.1, xw, rfl, ?_⟩⟩
      rw [show xfl h6 a 131 = b from O6.2 131 (by decide)]
      exact s6b
    have a7 := Q6.2.1.1.2.1.2.2.1
    have nby : ∀ k, xty h6 (xfl h6 t 107) ≠ some (true, 1, k) := fun k w => by rw [a7.2.2] at w; cases w
    have s7 : xfl h6 t 115 = tsc (pT P) 6 := Q6.2.1.1.2.2.1.2.2.2.2.2.2.1
    have X7 := Q6.2.1.addN I.1 (q := (hq.1, 0, xpack w.1)) (kk := 6) (f := 115) (n := tsc (pT P) 6 + 1) (Or.inl ⟨rfl, rfl⟩) (by rw [s7]) rfl NX
    have Q7 := Q6.put ((FrD.puta (i := ((tnt (pT P)).length : Int)) (v := a) a7.1 nby).trans (FrD.putf (f := 115) (v := tsc (pT P) 6 + 1) Q6.tt.2.1 (by decide))) X7
    have f7 : xfl (xputf (xputa h6 (xfl h6 t 107) ((tnt (pT P)).length : Int) a) t 115 (tsc (pT P) 6 + 1)) (ks K + 2) 31 = (if tsc (pT P) 0 = 0 then 0 else 1) := by
      rw [xfl_putf, if_neg (fun w => absurd w.2 (by decide))]
      exact M6.2.2.1.2
    have t30 := Q6.2.2.1
    have tr6 := M6.1.tr
    have tt6 := Q6.tt.1
    refine Wp.vc 400 [] rfl ?_
    simp only [xfl_puta, t30, s7]
    exact ⟨isF tr6 rfl, isF tt6 rfl, ⟨by omega, by omega⟩, isW tt6 rfl, trivial, XEn.ret rfl ⟨rfl, Q7.1, Q7.rt f7⟩⟩
  have y := at18 1
  have n := at18 0
  refine WpM.of rfl (Wp.vc 400 [18] rfl ?_)
  rw [s6]
  exact ⟨isF tr rfl, isF tt.1 rfl, fun w => n (if_neg (by omega)).symm, fun w => y (if_pos (by omega)).symm⟩
