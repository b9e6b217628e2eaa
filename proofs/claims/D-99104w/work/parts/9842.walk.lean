/-! WALKS, 81: town, WrongRoom -/
set_option maxRecDepth 100000
set_option maxHeartbeats 4000000
theorem CellX.low {B B' z : Int} {h : XH} {t : XT} (hb : B ≤ B') (c : CellX h B' z t) : CellX h B z t := ⟨Int.le_trans hb c.1, c.2⟩
theorem StrX.low {B B' a : Int} {h : XH} {w : List Int} (hb : B ≤ B') (s : StrX h B' a w) : StrX h B a w := ⟨s.1.low hb, s.2.1.low hb, s.2.2⟩
theorem TownX.low {B B' t : Int} {h : XH} {T : XTw} (hb : B ≤ B') (X : TownX h B' t T) : TownX h B t T := by
  obtain ⟨a, ⟨b, c, d, e⟩, f, H, P, N, S⟩ := X
  refine ⟨a.low hb, ⟨b.low hb, c.low hb, d.low hb, e.low hb⟩, f, fun i i0 i1 => ?_, fun i i0 i1 => ?_, fun k q hq => ?_, S⟩
  · obtain ⟨x, y, w, z1, z2, z3⟩ := H i i0 i1
    exact ⟨x.low hb, y, w, z1, z2, z3.low hb⟩
  · obtain ⟨x, y⟩ := P i i0 i1
    exact ⟨x.low hb, y⟩
  · obtain ⟨x, y⟩ := N k q hq
    refine ⟨x, ?_⟩
    rcases y with ⟨k0, c, w, z1, z2, z3⟩ | ⟨k1, c, z⟩
    · exact Or.inl ⟨k0, c.low hb, w, z1, z2, z3.low hb⟩
    · exact Or.inr ⟨k1, c.low hb, z⟩
/-- how it is at the beginning -/
def V0 (T : XTw) : Int → Int := fun i => if i < 7 then (if i < tnh T then thv T 3 i else -2) else if i = 7 then 0 else if i < 12 then thv T 8 (i - 8) else 0
def opTown (S : XSt) (n : Int) : Int × XSt := if 0 ≤ n ∧ n ≤ ((sTp S).length : Int) then (match rTown (sTp S) n with
  | .inl T => (tnh T, (some T, V0 T, [], [], (0, -1, 0), []))
  | .inr f => (-1, (S.1, S.2.1, S.2.2.1, S.2.2.2.1, (4, f.2, f.1), []))) else sNo S 2
theorem x_Rbegin {d : Nat} {h : XH} {B a t : Int} {T : XTw} (L : RoomsL h a) (hb : a + 4 ≤ B) (X : TownX h B t T) (O : TOK T) : WpM d 106 [.inr (.inr a), .inr (.inr t)] h (XRet fun v h' => v = none ∧ SnapX h' T a t (V0 T) ∧ XFr (fun z f => z = a ∧ (f = 43 ∨ f = 44)) (fun z => a + 1 ≤ z ∧ z ≤ a + 3) h h' ∧ xsz h' = xsz h ∧ xsl h' = xsl h) := by
  have hn := O.2.2.1
  have hp := O.2.2.2.1
  obtain ⟨l0, l1, l2, l3, l4, l5, l6, l7⟩ := L
  -- what is kept
  let J : XH → Prop := fun g => XFr (fun z f => z = a ∧ (f = 43 ∨ f = 44)) (fun z => a + 1 ≤ z ∧ z ≤ a + 3) h g ∧ xsz g = xsz h ∧ xsl g = xsl h ∧ xfl g a 43 = t ∧ xfl g a 44 = 0
  have jt : ∀ g, J g → TownX g B t T := fun g j => X.keep (Above.of j.1 (fun z f hz _ _ w => by omega) (fun z hz w => by omega))
  have jl : ∀ g, J g → xty g a = some (true, 3, none) ∧ xty g (a + 1) = some (true, 0, some 7) ∧ xty g (a + 2) = some (true, 0, some 4) ∧ xty g (a + 3) = some (true, 0, some 4) ∧ xfl g a 40 = a + 1 ∧ xfl g a 41 = a + 2 ∧ xfl g a 42 = a + 3 := fun g j => ⟨(j.1.2.2.1 _ (by omega)).trans l1, (j.1.2.2.1 _ (by omega)).trans l2, (j.1.2.2.1 _ (by omega)).trans l3, (j.1.2.2.1 _ (by omega)).trans l4, (j.1.2.2.2.1 _ _ (by omega) (fun w => by omega)).trans l5, (j.1.2.2.2.1 _ _ (by omega) (fun w => by omega)).trans l6, (j.1.2.2.2.1 _ _ (by omega) (fun w => by omega)).trans l7⟩
  have jp : ∀ g (c : Int) i v, 1 ≤ c → c ≤ 3 → J g → J (xputa g (a + c) i v) := fun g c i v c0 c1 j => ⟨j.1.puta (Or.inr ⟨by omega, by omega⟩), j.2⟩
  have two : ∀ (k : Int) (g : XH), k ≤ tpm T → (0 ≤ k ∧ J g ∧ (∀ i : Int, 0 ≤ i → i < tnh T → xar g (a + 1) i = V0 T i) ∧ ∀ q : Int, 0 ≤ q → q < k → xar g (a + 2) q = V0 T (8 + q) ∧ xar g (a + 3) q = V0 T (12 + q)) → Wp d 106 43 [some (.inr (.inr a)), some (.inr (.inr t)), some (.inl k)] [] g (XRet fun v h' => v = none ∧ SnapX h' T a t (V0 T) ∧ XFr (fun z f => z = a ∧ (f = 43 ∨ f = 44)) (fun z => a + 1 ≤ z ∧ z ≤ a + 3) h h' ∧ xsz h' = xsz h ∧ xsl h' = xsl h) := by
    refine loopUp (G := fun k g => Wp d 106 43 [some (.inr (.inr a)), some (.inr (.inr t)), some (.inl k)] [] g (XRet fun v h' => v = none ∧ SnapX h' T a t (V0 T) ∧ XFr (fun z f => z = a ∧ (f = 43 ∨ f = 44)) (fun z => a + 1 ≤ z ∧ z ≤ a + 3) h h' ∧ xsz h' = xsz h ∧ xsl h' = xsl h)) (tpm T) ?_ ?_
    · rintro k g ⟨k0, j, r1, r2⟩ hk ih
      have X := jt g j
      obtain ⟨m1, m2, m3, m4, m5, m6, m7⟩ := jl g j
      have tt := X.1.2.2
      have f114 : xfl g t 114 = tpm T := X.2.2.1.2.2.2.2.2.1
      have a6 := X.2.1.2.1.2.2
      have PX := X.2.2.2.2.1 k k0 hk
      have v8 : V0 T (8 + k) = thv T 8 k := by
        unfold V0
        rw [if_neg (by omega), if_neg (by omega), if_pos (by omega), show 8 + k - 8 = k by omega]
      have v12 : V0 T (12 + k) = 0 := by
        unfold V0
        rw [if_neg (by omega), if_neg (by omega), if_neg (by omega)]
      have nx := ih (xputa (xputa g (a + 2) k (thv T 8 k)) (a + 3) k 0) ⟨by omega, jp _ 3 _ _ (by decide) (by decide) (jp _ 2 _ _ (by decide) (by decide) j), fun i i0 i1 => by
        rw [xar_puta, if_neg (by omega), xar_puta, if_neg (by omega)]
        exact r1 i i0 i1, fun q q0 q1 => by
        rw [xar_puta, if_neg (by omega), xar_puta, xar_puta]
        by_cases e : q = k
        · rw [if_pos ⟨rfl, e⟩, if_pos ⟨rfl, e⟩, e, v8, v12]
          exact ⟨rfl, rfl⟩
        · rw [if_neg (fun w => e w.2), if_neg (fun w => e w.2), xar_puta, if_neg (by omega)]
          exact r2 q q0 (by omega)⟩
      refine Wp.vc 400 [43] rfl ?_
      simp only [xfl_puta]
      rw [f114, m6, m7, PX.2.2]
      exact ⟨isF tt rfl, fun q => absurd q (by omega), fun _ => ⟨isF m1 rfl, isF tt rfl, isR a6 (by decide) k0 (by omega), isF PX.1.2.2 rfl, isB m3 k0 (by omega), isF m1 rfl, isB m4 k0 (by omega), ⟨by omega, by omega⟩, nx⟩⟩
    · rintro g ⟨k0, j, r1, r2⟩
      have X := jt g j
      have tt := X.1.2.2
      have f114 : xfl g t 114 = tpm T := X.2.2.1.2.2.2.2.2.1
      refine Wp.vc 400 [51] rfl ?_
      rw [f114]
      refine ⟨isF tt rfl, fun _ => ⟨trivial, _, rfl, rfl, ⟨j.2.2.2.1, r1, j.2.2.2.2, r2⟩, j.1, j.2.1, j.2.2.1⟩, fun q => absurd (Int.le_refl _) q⟩
  have one : ∀ (k : Int) (g : XH), k ≤ tnh T → (0 ≤ k ∧ J g ∧ ∀ i : Int, 0 ≤ i → i < k → xar g (a + 1) i = V0 T i) → Wp d 106 12 [some (.inr (.inr a)), some (.inr (.inr t)), some (.inl k)] [] g (XRet fun v h' => v = none ∧ SnapX h' T a t (V0 T) ∧ XFr (fun z f => z = a ∧ (f = 43 ∨ f = 44)) (fun z => a + 1 ≤ z ∧ z ≤ a + 3) h h' ∧ xsz h' = xsz h ∧ xsl h' = xsl h) := by
    refine loopUp (G := fun k g => Wp d 106 12 [some (.inr (.inr a)), some (.inr (.inr t)), some (.inl k)] [] g (XRet fun v h' => v = none ∧ SnapX h' T a t (V0 T) ∧ XFr (fun z f => z = a ∧ (f = 43 ∨ f = 44)) (fun z => a + 1 ≤ z ∧ z ≤ a + 3) h h' ∧ xsz h' = xsz h ∧ xsl h' = xsl h)) (tnh T) ?_ ?_
    · rintro k g ⟨k0, j, r1⟩ hk ih
      have X := jt g j
      obtain ⟨m1, m2, m3, m4, m5, m6, m7⟩ := jl g j
      have tt := X.1.2.2
      have f111 : xfl g t 111 = tnh T := X.2.2.1.2.2.1
      have a5 := X.2.1.1.2.2
      have HX := X.2.2.2.1 k k0 hk
      have v3 : V0 T k = thv T 3 k := by
        unfold V0
        rw [if_pos (by omega), if_pos hk]
      have nx := ih (xputa g (a + 1) k (thv T 3 k)) ⟨by omega, jp _ 1 _ _ (by decide) (by decide) j, fun i i0 i1 => by
        rw [xar_puta]
        by_cases e : i = k
        · rw [if_pos ⟨rfl, e⟩, e, v3]
        · rw [if_neg (fun w => e w.2)]
          exact r1 i i0 (by omega)⟩
      refine Wp.vc 400 [12, 41] rfl ?_
      rw [f111, m5, HX.2.1.2.2.2.2.2.2]
      exact ⟨isF tt rfl, fun q => absurd q (by omega), fun _ => ⟨isF m1 rfl, isF tt rfl, isR a5 (by decide) k0 (by omega), isF HX.1.2.2 rfl, isB m2 k0 (by omega), ⟨by omega, by omega⟩, nx⟩⟩
    · rintro g ⟨k0, j, r1⟩
      have X := jt g j
      have tt := X.1.2.2
      have f111 : xfl g t 111 = tnh T := X.2.2.1.2.2.1
      have nx := two 0 g hp.1 ⟨Int.le_refl _, j, r1, fun q q0 q1 => by omega⟩
      refine Wp.vc 400 [20, 43] rfl ?_
      rw [f111]
      exact ⟨isF tt rfl, fun _ => nx, fun q => absurd (Int.le_refl _) q⟩
  have J0 : J (xputf (xputf h a 43 t) a 44 0) := by
    refine ⟨((XFr.refl h).putf (Or.inr ⟨rfl, Or.inl rfl⟩)).putf (Or.inr ⟨rfl, Or.inr rfl⟩), rfl, rfl, ?_, ?_⟩
    · rw [xfl_putf, if_neg (fun w => absurd w.2 (by decide)), xfl_putf, if_pos ⟨rfl, rfl⟩]
    · rw [xfl_putf, if_pos ⟨rfl, rfl⟩]
  have k0 := one 0 _ (by omega) ⟨Int.le_refl _, J0, fun i i0 i1 => by omega⟩
  refine WpM.of rfl (Wp.vc 400 [12] rfl ?_)
  exact ⟨isW l1 rfl, isW l1 rfl, k0⟩
theorem xgo4 : xgoes 4 38 2 47 := ⟨_, List.mem_cons_self, by decide, by decide, rfl, rfl⟩
/-- what a reading changes of WrongRoom -/
abbrev WRd (s z0 : Int) : Int → Nat → Prop := fun z f => (z = s ∧ (f = 1 ∨ f = 4 ∨ f = 5 ∨ f = 6)) ∨ (z = s + 2 ∧ 24 ≤ f ∧ f ≤ 31) ∨ (z = s + 3 ∧ (f = 38 ∨ f = 39)) ∨ z0 ≤ z
theorem wrd_xw {s z0 z : Int} {f : Nat} (hz : z < z0) (w : WRd s z0 z f) : XW s z f := by
  rcases w with ⟨e, w⟩ | ⟨e, w0, w1⟩ | ⟨e, w⟩ | w
  · refine ⟨by omega, by omega, ?_⟩
    rcases w with rfl | rfl | rfl | rfl <;> rfl
  · refine ⟨by omega, by omega, ?_⟩
    rcases (by omega : f = 24 ∨ f = 25 ∨ f = 26 ∨ f = 27 ∨ f = 28 ∨ f = 29 ∨ f = 30 ∨ f = 31) with rfl | rfl | rfl | rfl | rfl | rfl | rfl | rfl <;> rfl
  · refine ⟨by omega, by omega, ?_⟩
    rcases w with rfl | rfl <;> rfl
  · omega
theorem x_no4 {d : Nat} {h : XH} {s : Int} (ts : xty h s = some (true, 0, none)) : WpM d 7 [.inr (.inr s), .inl 4] h (XE (some (.inl (-1))) (xputf h s 4 4)) := by
  refine WpM.of rfl (Wp.vc 400 [] rfl ?_)
  exact ⟨isW ts rfl, trivial, rfl, rfl⟩
theorem x_opTown {d : Nat} {h : XH} {B s n k : Int} {S : XSt} (R : Rx h B s S) (O : SOK n S) (C : CstOK h s) (nz : xty h 0 = none) : WpM (d + 12) 4 [.inr (.inr s), .inl k] h (XRet fun v h' => v = some (.inl (opTown S k).1) ∧ Rx h' B s (opTown S k).2 ∧ XFr (XW s) (XA s) h h' ∧ xsz h' ≤ xsz h + 3306 ∧ xsl h' ≤ xsl h + 26556) := by
  refine WpM.of rfl (Wp.vc 400 [] rfl ?_)
  refine XU.anew R O rfl (Nat.zero_le _) (fun h1 U => ?_)
  have ts := U.ts
  have ol := O.2.2.1
  have f1 : xfl h1 s 1 = ((sTp S).length : Int) := U.1.2.2.1.1
  have bnd := U.bnd
  refine Wp.vc 400 [] rfl ?_
  rw [f1]
  refine ⟨isF ts rfl, ?_⟩
  refine Wp.callE (j := 0) rfl (Nat.le_of_ble_eq_true rfl) trivial (x_in k 0 _) ?_
  by_cases k0 : 0 ≤ k ∧ k ≤ ((sTp S).length : Int)
  · rw [if_pos k0, show opTown S k = _ from if_pos k0]
    obtain ⟨f2, L2⟩ := U.lay.2.2.2.1
    obtain ⟨h2, hh2⟩ : ∃ h2, h2 = xputf (xputf h1 s 1 0) s 5 0 := ⟨_, rfl⟩
    have ts2 : xty h2 s = some (true, 0, none) := by rw [hh2]; exact ts
    have p2 : XFr (WRd s (xsz h1)) (AT s (xsz h1)) h1 h2 := by
      rw [hh2]
      exact ((XFr.refl h1).putf (Or.inr (Or.inl ⟨rfl, Or.inl rfl⟩))).putf (Or.inr (Or.inl ⟨rfl, by decide⟩))
    have pU := U.2.2.1
    have C1 : CstOK h1 s := C.keep pU (by have := U.2.2.2.1; omega) (fun z f hz w => by omega) (fun z hz w => by omega)
    have nz1 : xty h1 0 = none := (pU.2.2.1 0 (by have := U.2.2.2.1; omega)).trans nz
    have rd := x_read (d := d) (h := h2) (s := s) (n := k) (tp := sTp S) ⟨bnd.1, by rw [hh2]; show s + 126 ≤ xsz h1; omega⟩ (by rw [hh2]; exact ⟨L2.1, L2.2.1, L2.2.2.1, by rw [xfl_putf, if_neg (by omega), xfl_putf, if_neg (by omega)]; exact L2.2.2.2.1, by rw [xfl_putf, if_neg (by omega), xfl_putf, if_neg (by omega)]; exact L2.2.2.2.2.1, by rw [xfl_putf, if_neg (by omega), xfl_putf, if_neg (by omega)]; exact L2.2.2.2.2.2⟩) (by rw [hh2]; exact ⟨U.lay.2.2.1.1, fun j hj => U.1.2.2.1.2 j (by show j < (sTp S).length; omega)⟩) ⟨k0.1, by omega⟩ (C1.keep p2 (by omega) (fun z f hz w => by omega) (fun z hz w => by omega)) ((p2.2.2.1 0 (by omega)).trans nz1)
    have sz2 : xsz h2 = xsz h1 := by rw [hh2]; rfl
    have sl2 : xsl h2 = xsl h1 := by rw [hh2]; rfl
    have kz2 : kz (XKt s k (sTp S) h2) = xsz h1 := sz2
    have sz1 := U.2.2.2.1
    have sl1 := U.2.2.2.2
    have frT : ∀ g, FrT s (xsz h2) (xputf h2 (s + 2) 24 k) g → XFr (WRd s (xsz h1)) (AT s (xsz h1)) h1 g := by
      intro g p
      have p3 : XFr (WRd s (xsz h1)) (AT s (xsz h1)) h1 (xputf h2 (s + 2) 24 k) := p2.putf (Or.inr (Or.inr (Or.inl ⟨rfl, by decide, by decide⟩)))
      refine p3.trans p (fun z f hz w => ?_) (fun z hz w => ?_)
      · rcases w with w | w | w
        · exact Or.inr (Or.inl ⟨w.1, by omega, w.2.2⟩)
        · exact Or.inr (Or.inr (Or.inl w))
        · omega
      · rcases w with w | w
        · exact Or.inl w
        · omega
    have toX : ∀ g W, XFr W (AT s (xsz h1)) h1 g → (∀ z f, z < xsz h1 → W z f → XW s z f) → XFr (XW s) (XA s) h1 g := fun g W p hW => p.mono hW (fun z hz w => by
      rcases w with w | w
      · exact ⟨by omega, by omega, by omega, by omega⟩
      · omega)
    have f22 : xfl h2 s 2 = s + 2 := by rw [hh2, xfl_putf, if_neg (fun w => absurd w.2 (by decide)), xfl_putf, if_neg (fun w => absurd w.2 (by decide))]; exact f2
    have tr2 : xty h2 (s + 2) = some (true, 1, none) := by rw [hh2]; exact L2.1
    have g21 : xfl h2 s 1 = 0 := by rw [hh2, xfl_putf, if_neg (fun w => absurd w.2 (by decide)), xfl_putf, if_pos ⟨rfl, rfl⟩]
    have f24 : xfl h2 s 4 = xfl h1 s 4 := by rw [hh2, xfl_putf, if_neg (fun w => absurd w.2 (by decide)), xfl_putf, if_neg (fun w => absurd w.2 (by decide))]
    have g25 : xfl h2 s 5 = 0 := by rw [hh2, xfl_putf, if_pos ⟨rfl, rfl⟩]
    refine Wp.vc 400 [] rfl ?_
    rw [← hh2, f22]
    clear hh2
    refine ⟨fun _ => ⟨isW ts rfl, isW ts rfl, isF ts2 rfl, ?_⟩, fun c => absurd (show ¬ (1 : Int) = 0 by decide) c⟩
    refine Wp.callX (j := 0) rfl (Nat.le_of_ble_eq_true rfl) ⟨true, tr2⟩ rd (fun v h3 q => ?_) (fun q h3 w => ?_)
    · cases hre : rTown (sTp S) k with
      | inr f =>
        rw [hre] at q
        cases q.1
      | inl T =>
        rw [hre] at q
        obtain ⟨v', e1, t, e2, TX, TO, fT, b1, b2⟩ := q
        cases e1
        subst e2
        rw [kz2] at TX
        have p3 := frT h3 fT
        dsimp only
        have fT : FrT s (xsz h2) (xputf h2 (s + 2) 24 k) h3 := fT
        have b1 : xsz h3 ≤ xsz h2 + 3 * k + 6 := b1
        have b2 : xsl h3 ≤ xsl h2 + 84 + 12 * (2 * k + 6) := b2
        obtain ⟨g4, hg4⟩ : ∃ g4, g4 = xputf h3 s 3 t := ⟨_, rfl⟩
        have p4 : XFr (fun z f => WRd s (xsz h1) z f ∨ (z = s ∧ (f = 3 ∨ f = 7 ∨ f = 8))) (AT s (xsz h1)) h1 g4 := by
          rw [hg4]
          exact (p3.mono (fun _ _ _ w => Or.inl w) (fun _ _ w => w)).putf (Or.inr (Or.inr ⟨rfl, Or.inl rfl⟩))
        have hW4 : ∀ z f, z < xsz h1 → (WRd s (xsz h1) z f ∨ (z = s ∧ (f = 3 ∨ f = 7 ∨ f = 8))) → XW s z f := fun z f hz w => by
          rcases w with w | ⟨e, w⟩
          · exact wrd_xw hz w
          · refine ⟨by omega, by omega, ?_⟩
            rcases w with rfl | rfl | rfl <;> rfl
        have px4 := toX g4 _ p4 hW4
        have zz4 := p4.2.1
        have L4 : XLay g4 s := U.lay.keep px4 (fun z f _ _ hf w => by rw [w.2.2] at hf; cases hf) (fun w => by omega) (fun w => by omega)
        have TX4 : TownX g4 (xsz h1) t T := by
          rw [hg4]
          exact TX.keep (Above.of ((XFr.refl h3).putf (W := fun z f => z = s ∧ f = 3) (A := fun _ => False) (Or.inr ⟨rfl, rfl⟩)) (fun z f hz _ _ w => by omega) (fun _ _ w => w))
        have f9 := L4.2.2.2.2.1
        have ts3 : xty h3 s = some (true, 0, none) := (p3.2.2.1 s (by omega)).trans ts
        have ts4 : xty g4 s = some (true, 0, none) := L4.2.1
        have g3 : xfl g4 s 3 = t := by rw [hg4, xfl_putf, if_pos ⟨rfl, rfl⟩]
        have sz4 : xsz g4 = xsz h3 := by rw [hg4]; rfl
        have sl4 : xsl g4 = xsl h3 := by rw [hg4]; rfl
        have rb := x_Rbegin (d := d + 11) f9.2 (B := xsz h1) (by omega) TX4 TO
        refine Wp.vc 400 [] rfl ?_
        rw [← hg4, f9.1, g3]
        refine ⟨isW ts3 rfl, isF ts4 rfl, isF ts4 rfl, ?_⟩
        refine Wp.callR (j := 0) rfl (Nat.le_of_ble_eq_true rfl) ⟨true, f9.2.2.1⟩ rb (fun v h5 q => ?_)
        obtain ⟨rfl, SN, p5, z5, l5⟩ := q
        have ts5 : xty h5 s = some (true, 0, none) := (p5.2.2.1 s (by omega)).trans ts4
        obtain ⟨h6, hh6⟩ : ∃ h6, h6 = xputf (xputf h5 s 8 0) s 7 0 := ⟨_, rfl⟩
        have q6 : XFr (fun z f => (z = s ∧ (f = 7 ∨ f = 8)) ∨ (z = s + 5 ∧ (f = 43 ∨ f = 44))) (fun z => s + 6 ≤ z ∧ z ≤ s + 8) g4 h6 := by
          rw [hh6]
          exact ((p5.mono (fun z f _ w => Or.inr w) (fun z _ w => by omega)).putf (Or.inr (Or.inl ⟨rfl, Or.inr rfl⟩))).putf (Or.inr (Or.inl ⟨rfl, Or.inl rfl⟩))
        have zz6 := q6.2.1
        have qx : XFr (XW s) (XA s) g4 h6 := q6.mono (fun z f _ w => by
          rcases w with ⟨e, w⟩ | ⟨e, w⟩
          · refine ⟨by omega, by omega, ?_⟩
            rcases w with rfl | rfl <;> rfl
          · refine ⟨by omega, by omega, ?_⟩
            rcases w with rfl | rfl <;> rfl) (fun z _ w => ⟨by omega, by omega, by omega, by omega⟩)
        have TX6 : TownX h6 (xsz h1) t T := TX4.keep (Above.of q6 (fun z f hz _ _ w => by omega) (fun z hz w => by omega))
        have px6 : XFr (XW s) (XA s) h1 h6 := px4.trans qx (fun _ _ _ w => w) (fun _ _ w => w)
        have L6 : XLay h6 s := L4.keep qx (fun z f _ _ hf w => by rw [w.2.2] at hf; cases hf) (fun w => by omega) (fun w => by omega)
        have fl : ∀ f, f ≠ 7 → f ≠ 8 → f ≠ 3 → xfl h6 s f = xfl h3 s f := fun f f7 f8 f3 => (q6.2.2.2.1 s f (by omega) (fun w => by omega)).trans (by rw [hg4, xfl_putf, if_neg (fun w => f3 w.2)])
        have f2h : ∀ f, ¬ (24 ≤ f ∧ f ≤ 31) → xfl h3 s f = xfl h2 s f := fun f hf => (fT.2.2.2.1 s f (by show s < xsz h2; omega) (fun w => by
            rcases w with w | w | w
            · omega
            · omega
            · have : xsz h2 ≤ s := w
              omega)).trans (show xfl (xputf h2 (s + 2) 24 k) s f = _ by rw [xfl_putf, if_neg (by omega)])
        have e6 : xfl h6 s 3 = t := (q6.2.2.2.1 s 3 (by omega) (fun w => by omega)).trans g3
        have s7 : xfl h6 s 7 = 0 := by rw [hh6, xfl_putf, if_pos ⟨rfl, rfl⟩]
        have s8 : xfl h6 s 8 = 0 := by rw [hh6, xfl_putf, if_neg (fun w => absurd w.2 (by decide)), xfl_putf, if_pos ⟨rfl, rfl⟩]
        have SN6 : SnapX h6 T (s + 5) t (V0 T) := by
          rw [hh6]
          exact SN.keep (((XFr.refl h5).putf (W := fun z f => z = s) (A := fun _ => False) (Or.inr rfl)).putf (Or.inr rfl)) (by omega) (fun w => by omega) (fun w => by omega) (fun w => w) (fun w => w) (fun w => w)
        have h54 : xfl h2 s 4 = 0 := by
          have q := U.1.2.2.2.1.1
          have q : xfl h1 s 4 = 0 := q
          rw [← q]
          exact f24
        have RR : Rx h6 B s (some T, V0 T, [], [], (0, -1, 0), []) := by
          obtain ⟨-, -, -, -, -, r, ⟨rr0, rr1, rr2⟩, -⟩ := U.1
          refine ⟨⟨bnd.1, bnd.2.1, by omega⟩, L6, ⟨?_, fun j hj => absurd hj (Nat.not_lt_zero _)⟩, ⟨?_, fun w => absurd (show (0 : Int) = 4 from w) (by decide), ?_⟩, ⟨s7, s8⟩, r, ⟨rr0, rr1, fun k k0 k1 => ?_⟩, ?_⟩
          · exact ((fl 1 (by decide) (by decide) (by decide)).trans (f2h 1 (by decide))).trans g21
          · exact ((fl 4 (by decide) (by decide) (by decide)).trans (f2h 4 (by decide))).trans h54
          · exact ((fl 5 (by decide) (by decide) (by decide)).trans (f2h 5 (by decide))).trans g25
          · refine Eq.trans ?_ (rr2 k k0 k1)
            refine (q6.2.2.2.2 _ _ (by omega) (fun w => by omega)).trans (p4.2.2.2.2 _ _ (by omega) (fun w => by
              rcases w with w | w <;> omega))
          · show TownX h6 B (xfl h6 s 3) T ∧ _
            rw [e6]
            exact ⟨TX6.low bnd.2.2, SN6, fun k V hk => by simp [sU] at hk, fun k V hk => by simp [sM] at hk⟩
        have f111 : xfl h6 t 111 = tnh T := TX6.2.2.1.2.2.1
        have tt6 := TX6.1.2.2
        have ts6 := L6.2.1
        have ts5' : xty (xputf h5 s 8 0) s = some (true, 0, none) := ts5
        refine Wp.vc 400 [] rfl ?_
        rw [← hh6, e6, f111]
        refine ⟨isW ts5 rfl, isW ts5' rfl, isF ts6 rfl, isF tt6 rfl, trivial, _, rfl, rfl, RR, pU.trans px6 (fun _ _ _ w => w) (fun _ _ w => w), ?_, ?_⟩
        · rw [show xsz h6 = xsz h5 by rw [hh6]; rfl]
          omega
        · rw [show xsl h6 = xsl h5 by rw [hh6]; rfl]
          omega
    · cases hre : rTown (sTp S) k with
      | inl T =>
        rw [hre] at w
        obtain ⟨v', e1, -⟩ := w
        cases e1
      | inr f =>
        rw [hre] at w
        obtain ⟨e1, XC3, fT, ⟨g38, g39⟩, b1, b2⟩ := w
        have e1 : Sum.inr q = (Sum.inr (s + 3) : XO) := e1
        cases e1
        have p3 := frT h3 fT
        have t3 : xty h3 (s + 3) = some (true, 2, none) := by
          have : xty h3 (s + 2 + 1) = some (true, 2, none) := XC3.2.1.2.1
          rwa [show s + 2 + 1 = s + 3 by omega] at this
        refine ⟨2, t3, Or.inr ⟨47, xgo4, ?_⟩⟩
        dsimp only
        have ts3 : xty h3 s = some (true, 0, none) := (p3.2.2.1 s (by omega)).trans ts
        have g38 : xfl h3 (s + 3) 38 = f.1 := g38
        have g39 : xfl h3 (s + 3) 39 = f.2 := g39
        obtain ⟨h4, hh4⟩ : ∃ h4, h4 = xputf (xputf h3 s 5 f.1) s 6 f.2 := ⟨_, rfl⟩
        have ts4 : xty h4 s = some (true, 0, none) := by rw [hh4]; exact ts3
        have p5 : XFr (WRd s (xsz h1)) (AT s (xsz h1)) h1 (xputf h4 s 4 4) := by
          rw [hh4]
          exact ((p3.putf (Or.inr (Or.inl ⟨rfl, by decide⟩))).putf (Or.inr (Or.inl ⟨rfl, by decide⟩))).putf (Or.inr (Or.inl ⟨rfl, by decide⟩))
        have r1 : xfl (xputf h4 s 4 4) s 1 = 0 := by
          rw [xfl_putf, if_neg (fun w => absurd w.2 (by decide)), hh4, xfl_putf, if_neg (fun w => absurd w.2 (by decide)), xfl_putf, if_neg (fun w => absurd w.2 (by decide))]
          exact (fT.2.2.2.1 s 1 (by show s < xsz h2; omega) (fun w => by
            rcases w with w | w | w
            · omega
            · omega
            · have : xsz h2 ≤ s := w
              omega)).trans (show xfl (xputf h2 (s + 2) 24 k) s 1 = 0 by rw [xfl_putf, if_neg (by omega)]; exact g21)
        have r4 : xfl (xputf h4 s 4 4) s 4 = 4 := by rw [xfl_putf, if_pos ⟨rfl, rfl⟩]
        have r5 : xfl (xputf h4 s 4 4) s 5 = f.1 := by rw [xfl_putf, if_neg (fun w => absurd w.2 (by decide)), hh4, xfl_putf, if_neg (fun w => absurd w.2 (by decide)), xfl_putf, if_pos ⟨rfl, rfl⟩]
        have r6 : xfl (xputf h4 s 4 4) s 6 = f.2 := by rw [xfl_putf, if_neg (fun w => absurd w.2 (by decide)), hh4, xfl_putf, if_pos ⟨rfl, rfl⟩]
        have s3 : xsz (xputf h4 s 4 4) = xsz h3 := by rw [hh4]; rfl
        have l3 : xsl (xputf h4 s 4 4) = xsl h3 := by rw [hh4]; rfl
        have b1 : xsz h3 ≤ xsz h2 + 2 * k + (6 + k) := b1
        have b2 : xsl h3 ≤ xsl h2 + 84 + 12 * (k + (6 + k)) := b2
        have px := toX _ _ p5 (fun z f hz w => wrd_xw hz w)
        have RR : Rx (xputf h4 s 4 4) B s (S.1, S.2.1, S.2.2.1, S.2.2.2.1, (4, f.2, f.1), []) := by
          have fl : ∀ f, ¬ (f = 1 ∨ f = 4 ∨ f = 5 ∨ f = 6) → xfl (xputf h4 s 4 4) s f = xfl h1 s f := fun f hf => p5.2.2.2.1 s f (by omega) (fun w => by
            rcases w with w | w | w | w <;> omega)
          have ar : ∀ c i : Int, c ≠ 4 → c < 126 → xar (xputf h4 s 4 4) (s + c) i = xar h1 (s + c) i := fun c i c4 hc => p5.2.2.2.2 _ i (by omega) (fun w => by
            rcases w with w | w <;> omega)
          obtain ⟨-, -, -, -, ⟨v1, v2⟩, r, ⟨rr0, rr1, rr2⟩, RT⟩ := U.1
          refine U.1.re px rfl (fl 3 (by decide)) ⟨r1, fun j hj => absurd hj (Nat.not_lt_zero _)⟩ ⟨r4, fun _ => r6, r5⟩ ⟨(fl 7 (by decide)).trans v1, (fl 8 (by decide)).trans v2⟩ r ⟨rr0, rr1, fun k k0 k1 => (ar 47 _ (by decide) (by decide)).trans (rr2 k k0 k1)⟩ (fun T e => ?_)
          unfold RxT at RT
          rw [e] at RT
          obtain ⟨-, q2, q3, q4⟩ := RT
          have hm := U.2.1.2.1.2
          have e5 : s + 5 = s + 5 := rfl
          rw [fl 3 (by decide)]
          have snap : ∀ (c t : Int) (V : Int → Int), 4 < c → c + 3 < 126 → SnapX h1 T (s + c) t V → SnapX (xputf h4 s 4 4) T (s + c) t V := fun c t V c0 c1 q => q.keep p5 (by omega) (fun w => by
            rcases w with w | w | w | w <;> omega) (fun w => by
            rcases w with w | w | w | w <;> omega) (fun w => by
            rcases w with w | w <;> omega) (fun w => by
            rcases w with w | w <;> omega) (fun w => by
            rcases w with w | w <;> omega)
          refine ⟨snap 5 _ _ (by decide) (by decide) q2, fun k V hk => ?_, fun k V hk => ?_⟩
          · have q := q3 k V hk
            rw [Int.add_assoc] at q ⊢
            exact snap _ _ _ (by omega) (by omega) q
          · have q := q4 k V hk
            have hk3 : k < (sM S).length := (List.getElem?_eq_some_iff.mp hk).1
            have hm3 : (sM S).length ≤ 3 := hm
            rw [Int.add_assoc] at q ⊢
            exact snap _ _ _ (by omega) (by omega) q
        refine Wp.vc 400 [] rfl ?_
        rw [g38, show xfl (xputf h3 s 5 f.1) (s + 3) 39 = f.2 by rw [xfl_putf, if_neg (by omega)]; exact g39, ← hh4]
        refine ⟨isF t3 rfl, isW ts3 rfl, isF t3 rfl, isW ts3 rfl, ?_⟩
        refine Wp.callE (j := 0) rfl (Nat.le_of_ble_eq_true rfl) ⟨true, ts4⟩ (x_no4 ts4) ?_
        refine Wp.vc 400 [] rfl ?_
        exact ⟨trivial, _, rfl, rfl, RR, pU.trans px (fun _ _ _ w => w) (fun _ _ w => w), by omega, by omega⟩
  · rw [if_neg k0, show opTown S k = _ from if_neg k0]
    refine Wp.vc 400 [] rfl ?_
    refine ⟨fun c => absurd rfl c, fun _ => ?_⟩
    refine U.noK (k := 2) (by decide) rfl (Nat.le_of_ble_eq_true rfl) (fun h2 U2 => ?_)
    refine Wp.vc 400 [] rfl ?_
    have z1 := U2.2.2.2.1
    have z2 := U2.2.2.2.2
    exact ⟨trivial, _, rfl, rfl, U2.1, U2.2.2.1, by omega, by omega⟩
