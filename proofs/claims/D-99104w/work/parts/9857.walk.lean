/-! WALKS, 95: town, the model -/
set_option maxRecDepth 100000
set_option maxHeartbeats 4000000
/-- a fault's number is above 0 -/
def FPos {α : Type} (r : Re α) : Prop := ∀ f, r = .inr f → 1 ≤ f.1
theorem FPos.rb {α β : Type} {r : Re α} {k : α → Re β} (h : FPos r) (hk : ∀ a, FPos (k a)) : FPos (rb r k) := by
  intro f e
  cases r with
  | inl a => exact hk a f e
  | inr g =>
    cases e
    exact h _ rfl
theorem FPos.inl {α : Type} {a : α} : FPos (.inl a : Re α) := fun f e => by cases e
theorem FPos.inr {α : Type} {c p : Int} (h : 1 ≤ c) : FPos (.inr (c, p) : Re α) := fun f e => by cases e; exact h
theorem FPos.ite {α : Type} {p : Prop} [Decidable p] {a b : Re α} (ha : FPos a) (hb : FPos b) : FPos (if p then a else b) := by
  split
  · exact ha
  · exact hb
section
variable {tp : List Int} {n : Int}
theorem fp_must {w : List Int} {l : LTk} : FPos (rMust tp n w l) := .ite .inl (.inr (by decide))
theorem fp_num {lo hi : Int} {l : LTk} : FPos (rNum tp n lo hi l) := .ite (.inr (by decide)) (.ite .inl (.inr (by decide)))
theorem fp_aft {w : List Int} {lo hi : Int} {l : LTk} : FPos (rAft tp n w lo hi l) := .rb fp_must (fun _ => fp_num)
theorem fp_word {l : LTk} : FPos (rWord tp n l) := .ite .inl (.inr (by decide))
theorem fp_fresh {P : PT} {l : LTk} : FPos (rFresh tp n P l) := .ite (.ite .inl (.inr (by decide))) (.inr (by decide))
theorem fp_here {P : PT} {l : LTk} : FPos (rHere P l) := by
  unfold rHere
  refine .ite ?_ (.inr (by decide))
  split
  · exact .inl
  · exact .inr (by decide)
theorem fp_house {P : PT} {l : LTk} : FPos (rHouse tp n P l) := .rb fp_here (fun _ => .inl)
theorem fp_begins {can : Prop} [Decidable can] {T : XTw} {l : LTk} : FPos (rBegins tp n can T l) := .ite (.ite (.inr (by decide)) .inl) (.inr (by decide))
theorem fp_line {P : PT} {l : LTk} : FPos (lLine tp n P l) := by
  unfold lLine
  refine .ite (.inr (by decide)) (.ite ?_ (.ite ?_ (.ite ?_ (.ite ?_ (.ite ?_ (.ite ?_ (.ite ?_ (.ite ?_ (.inr (by decide)))))))))) 
  · exact .ite (.rb fp_aft (fun _ => .rb fp_aft (fun _ => .inl))) (.inr (by decide))
  · exact .rb fp_begins (fun _ => .rb fp_fresh (fun _ => .rb fp_aft (fun _ => .rb fp_aft (fun _ => .rb fp_aft (fun _ => .rb fp_must (fun _ => .rb fp_word (fun _ => .inl)))))))
  · exact .rb fp_begins (fun _ => .rb fp_here (fun _ => .ite (.rb fp_must (fun _ => .rb fp_here (fun _ => .ite (.inr (by decide)) .inl))) (.inr (by decide))))
  · exact .rb fp_begins (fun _ => .rb fp_here (fun _ => .ite (.rb fp_aft (fun _ => .rb fp_aft (fun _ => .inl))) (.inr (by decide))))
  · exact .rb fp_begins (fun _ => .rb fp_house (fun _ => .rb fp_here (fun _ => .ite (.inr (by decide)) (.rb fp_aft (fun _ => .inl)))))
  · exact .rb fp_begins (fun _ => .rb fp_fresh (fun _ => .rb fp_must (fun _ => .rb fp_house (fun _ => .rb fp_must (fun _ => .rb fp_house (fun _ => .inl))))))
  · exact .rb fp_begins (fun _ => .rb fp_house (fun _ => .rb fp_word (fun _ => .inl)))
  · exact .rb fp_begins (fun _ => .rb fp_house (fun _ => .rb fp_num (fun _ => .inl)))
theorem fp_all : ∀ (k : Nat) (P : PT) (l : LTk), FPos (lAll tp n k P l)
  | 0, P, l => .inl
  | k + 1, P, l => .rb fp_line (fun q => .ite (fp_all k _ _) .inl)
theorem fp_town : FPos (rTown tp n) := .rb (fp_all _ _ _) (fun _ => .ite (.inr (by decide)) (.ite (.inr (by decide)) .inl))
end
theorem Wp.na2 {d M pc np : Nat} {ls : XL} {h0 h : XH} {a : Int} {c f e : Nat} {n : Int} {l : List (Nat × Nat × Int)} {Q : XO → XH → Prop} (hx : xrun 4 M pc ls [] h True = some (((True ∧ (0 ≤ n ∧ n ≤ 65536)) ∧ xIsW (xnewa h e n) a f), np, ls, [], xputf (xnewa h e n) a f (xsz h))) (hn : 0 ≤ n ∧ n ≤ 65536) (hc : xhas c f = true) (ht : xty h0 a = some (true, c, none)) (K : NAcc h0 h a l) (hf : (l.any fun q => Nat.beq q.1 f) = false) (k : ∀ h1, NAcc h0 h1 a (l ++ [(f, e, n)]) → XFr (xOf a) xNoA h h1 → (∀ i, xar h1 (xsz h) i = 0) → xsz h1 = xsz h + 1 → Wp d M np ls [] h1 Q) : Wp d M pc ls [] h Q := by
  refine Wp.run 4 hx ⟨⟨trivial, hn⟩, isW (c := c) ?_ hc⟩ (k _ (K.step hf) (((XFr.refl h).newa).putf (Or.inr rfl)) (fun i => ?_) rfl)
  · have h1 := K.2.1
    rw [xty_newa, if_neg (by omega)]
    exact K.ty ht
  · rw [xar_putf, xar_newa, if_pos rfl]
theorem m_Town_init {d : Nat} {h : XH} {t : Int} (ht : xty h t = some (true, 15, none)) (hs : xsz h = t + 1) : WpM d 291 [.inr (.inr t)] h (XRet fun v h' => v = none ∧ NAcc h h' t [(143, 0, 7), (144, 0, 7), (145, 0, 7), (146, 0, 7), (147, 0, 7), (148, 0, 7), (149, 3, 7), (150, 0, 49), (151, 0, 4), (152, 0, 4), (153, 0, 8), (154, 0, 4), (155, 0, 4), (156, 3, 8), (157, 3, 11), (158, 0, 11), (159, 0, 11)] ∧ ∀ i, xar h' (t + 8) i = 0) := by
  refine WpM.of rfl (Wp.vc 2 [] rfl ?_)
  refine ⟨⟨_, _, ht⟩, ?_⟩
  have K := NAcc.nil hs
  refine Wp.na rfl (by decide) rfl ht K (by decide) (fun h1 K => ?_)
  refine Wp.na rfl (by decide) rfl ht K (by decide) (fun h1 K => ?_)
  refine Wp.na rfl (by decide) rfl ht K (by decide) (fun h1 K => ?_)
  refine Wp.na rfl (by decide) rfl ht K (by decide) (fun h1 K => ?_)
  refine Wp.na rfl (by decide) rfl ht K (by decide) (fun h1 K => ?_)
  refine Wp.na rfl (by decide) rfl ht K (by decide) (fun h1 K => ?_)
  refine Wp.na rfl (by decide) rfl ht K (by decide) (fun h1 K => ?_)
  refine Wp.na2 rfl (by decide) rfl ht K (by decide) (fun h1 K2 p z sz => ?_)
  have s7 := K.2.1
  have z : ∀ i, xar h1 (t + 8) i = 0 := fun i => by rw [← z i, show xsz _ = t + 8 from s7.trans (by show t + 1 + 7 = t + 8; omega)]
  have lt : t + 8 < xsz h1 := by rw [sz, s7]; show t + 8 < t + 1 + 7 + 1; omega
  clear p s7 sz K
  refine Wp.na2 rfl (by decide) rfl ht K2 (by decide) (fun h2 K2 p _ sz => ?_)
  have z : ∀ i, xar h2 (t + 8) i = 0 := fun i => (p.2.2.2.2 _ i lt (fun w => w)).trans (z i)
  have lt : t + 8 < xsz h2 := by rw [sz]; omega
  refine Wp.na2 rfl (by decide) rfl ht K2 (by decide) (fun h2 K2 p _ sz => ?_)
  have z : ∀ i, xar h2 (t + 8) i = 0 := fun i => (p.2.2.2.2 _ i lt (fun w => w)).trans (z i)
  have lt : t + 8 < xsz h2 := by rw [sz]; omega
  refine Wp.na2 rfl (by decide) rfl ht K2 (by decide) (fun h2 K2 p _ sz => ?_)
  have z : ∀ i, xar h2 (t + 8) i = 0 := fun i => (p.2.2.2.2 _ i lt (fun w => w)).trans (z i)
  have lt : t + 8 < xsz h2 := by rw [sz]; omega
  refine Wp.na2 rfl (by decide) rfl ht K2 (by decide) (fun h2 K2 p _ sz => ?_)
  have z : ∀ i, xar h2 (t + 8) i = 0 := fun i => (p.2.2.2.2 _ i lt (fun w => w)).trans (z i)
  have lt : t + 8 < xsz h2 := by rw [sz]; omega
  refine Wp.na2 rfl (by decide) rfl ht K2 (by decide) (fun h2 K2 p _ sz => ?_)
  have z : ∀ i, xar h2 (t + 8) i = 0 := fun i => (p.2.2.2.2 _ i lt (fun w => w)).trans (z i)
  have lt : t + 8 < xsz h2 := by rw [sz]; omega
  refine Wp.na2 rfl (by decide) rfl ht K2 (by decide) (fun h2 K2 p _ sz => ?_)
  have z : ∀ i, xar h2 (t + 8) i = 0 := fun i => (p.2.2.2.2 _ i lt (fun w => w)).trans (z i)
  have lt : t + 8 < xsz h2 := by rw [sz]; omega
  refine Wp.na2 rfl (by decide) rfl ht K2 (by decide) (fun h2 K2 p _ sz => ?_)
  have z : ∀ i, xar h2 (t + 8) i = 0 := fun i => (p.2.2.2.2 _ i lt (fun w => w)).trans (z i)
  have lt : t + 8 < xsz h2 := by rw [sz]; omega
  refine Wp.na2 rfl (by decide) rfl ht K2 (by decide) (fun h2 K2 p _ sz => ?_)
  have z : ∀ i, xar h2 (t + 8) i = 0 := fun i => (p.2.2.2.2 _ i lt (fun w => w)).trans (z i)
  have lt : t + 8 < xsz h2 := by rw [sz]; omega
  refine Wp.na2 rfl (by decide) rfl ht K2 (by decide) (fun h2 K2 p _ sz => ?_)
  have z : ∀ i, xar h2 (t + 8) i = 0 := fun i => (p.2.2.2.2 _ i lt (fun w => w)).trans (z i)
  have lt : t + 8 < xsz h2 := by rw [sz]; omega
  refine Wp.vc 400 [] rfl ?_
  exact ⟨trivial, _, rfl, rfl, K2, z⟩
def mArr : List (Nat × Nat × Int) := [(143, 0, 7), (144, 0, 7), (145, 0, 7), (146, 0, 7), (147, 0, 7), (148, 0, 7), (149, 3, 7), (150, 0, 49), (151, 0, 4), (152, 0, 4), (153, 0, 8), (154, 0, 4), (155, 0, 4), (156, 3, 8), (157, 3, 11), (158, 0, 11), (159, 0, 11)]
theorem MTy.first {z0 t : Int} {h0 h : XH} (K : NAcc h0 h t mArr) (ht : xty h0 t = some (true, 15, none)) (hz : z0 ≤ t) (f0 : ∀ f, xfl h0 t f = 0) (z : ∀ i, xar h (t + 8) i = 0) (e : Int) (he : 0 ≤ e) : MTy z0 h t ∧ MTf h t pt0 e := by
  have sz : xsz h = t + 18 := K.2.1.trans (by show t + 1 + 17 = t + 18; omega)
  have g : ∀ (j : Nat) (q : Nat × Nat × Int), mArr[j]? = some q → xty h (t + ((j : Int) + 1)) = some (true, q.2.1, some q.2.2) ∧ xfl h t q.1 = t + ((j : Int) + 1) := fun j q hj => by
    have := K.2.2.2.1 j q hj
    rwa [show t + 1 + (j : Int) = t + ((j : Int) + 1) by omega] at this
  have k0 : ∀ f, (mArr.any fun q => Nat.beq q.1 f) = false → xfl h t f = 0 := fun f hf => (K.2.2.2.2.1 f hf).trans (f0 f)
  refine ⟨⟨⟨hz, by omega⟩, K.ty ht, fun f f0 f1 => ?_, fun c hc => ?_, (g 6 _ rfl).1, (g 7 _ rfl).1, ⟨(g 8 _ rfl).1, (g 9 _ rfl).1⟩, (g 10 _ rfl).1, ⟨(g 11 _ rfl).1, (g 12 _ rfl).1⟩, (g 13 _ rfl).1, (g 14 _ rfl).1, (g 15 _ rfl).1, (g 16 _ rfl).1⟩, ⟨k0 133 rfl, k0 134 rfl, k0 135 rfl, k0 137 rfl, k0 138 rfl, k0 139 rfl, k0 140 rfl, k0 141 rfl⟩, ⟨k0 142 rfl, by rw [k0 136 rfl]; decide, by rw [k0 136 rfl]; exact he⟩, fun i i0 i1 => ?_, fun i j _ _ _ _ => z _, fun i i0 i1 => ?_, fun k q hq => ?_, fun k q hq => ?_, fun k q hq => ?_⟩
  · have key : ∀ j : Fin 17, ∃ q, mArr[j.val]? = some q ∧ q.1 = 143 + j.val := by decide +kernel
    obtain ⟨q, h1, h2⟩ := key ⟨f - 143, by omega⟩
    have h2 : q.1 = 143 + (f - 143) := h2
    have e := (g (f - 143) q h1).2
    rw [show q.1 = f by omega] at e
    rw [e]
    omega
  · rcases (by omega : c = 1 ∨ c = 2 ∨ c = 3 ∨ c = 4 ∨ c = 5 ∨ c = 6) with rfl | rfl | rfl | rfl | rfl | rfl
    · exact (g 0 _ rfl).1
    · exact (g 1 _ rfl).1
    · exact (g 2 _ rfl).1
    · exact (g 3 _ rfl).1
    · exact (g 4 _ rfl).1
    · exact (g 5 _ rfl).1
  · have i1 : i < 0 := i1
    omega
  · have i1 : i < 0 := i1
    omega
  · have hq : ([] : List (Int × Int × Int))[k]? = some q := hq
    simp at hq
  · have hq : ([] : List (Int × Int × Int))[k]? = some q := hq
    simp at hq
  · have hq : ([] : List (List Int × Int × Int))[k]? = some q := hq
    simp at hq
theorem m_readAll {d : Nat} {K : XX} {h : XH} (Z : MZ K h (.inl (nxt (kt K) (kn K) 0))) (R : MRt K h pt0 (le_ (nxt (kt K) (kn K) 0))) : WpM (d + 12) 147 [.inr (.inr (ks K))] h (MRdEnd K h (rTown (kt K) (kn K))) := by
  have n0 := Z.1.2.2.2.1
  have lo := (Z.2.2 _ rfl).1
  have e : rTown (kt K) (kn K) = rb (lLine (kt K) (kn K) pt0 (nxt (kt K) (kn K) 0)) (fun q => rb (if lk q.2 = 59 then lAll (kt K) (kn K) ((kn K).toNat + 1) q.1 (ga (kt K) (kn K) q.2) else .inl q) rEnd) := rb_rb _ _ _
  rw [e]
  have a := m_lines (d := d) (h := h) ((kn K).toNat + 1) h _ pt0 Z R ⟨PI.first (by omega), rfl⟩ ⟨XFr.refl h, rfl, rfl⟩ (by omega)
  refine WpM.of rfl (Wp.vc 400 [2] rfl ?_)
  exact a
theorem FrMT.at {K : XX} {h g : XH} (p : FrMT K h g) {z : Int} (hz : z < kz K) (hs : z < xsz h) : xty g z = xty h z ∧ (z ≠ ks K → ∀ f, xfl g z f = xfl h z f) ∧ (∀ f, ¬ (74 ≤ f ∧ f ≤ 80) → xfl g z f = xfl h z f) ∧ ∀ i, xar g z i = xar h z i :=
  ⟨p.1.2.2.1 z hs, fun n f => p.1.2.2.2.1 z f hs (fun w => by omega), fun f n => p.1.2.2.2.1 z f hs (fun w => by omega), fun i => p.1.2.2.2.2 z i hs (fun w => by omega)⟩
theorem m_opTown {d : Nat} {h : XH} {B m n k : Int} {S : XSt} (R : Rm h B m S) (O : SOK n S) (C : CstOK h m) : WpM (d + 13) 141 [.inr (.inr m), .inl k] h (XRet fun v h' => v = some (.inl (opTown S k).1) ∧ Rm h' B m (opTown S k).2 ∧ XFr (MW m) (MA m) h h' ∧ xsz h' ≤ xsz h + 18 ∧ xsl h' ≤ xsl h + 190) := by
  refine WpM.of rfl (MU.start R O rfl (fun g U => ?_))
  have tm := U.tm
  have ol := O.2.2.1
  have f72 : xfl g m 72 = ((sTp S).length : Int) := U.1.2.2.1.1
  have bnd := U.bnd
  have sz1 := U.2.2.2.1
  have sl1 := U.2.2.2.2
  have pU := U.2.2.1
  have ref : ¬ (0 ≤ k ∧ k ≤ ((sTp S).length : Int)) → Wp (d + 13) 141 17 [some (.inr (.inr m)), some (.inl k), none] [] g (XRet fun v h' => v = some (.inl (opTown S k).1) ∧ Rm h' B m (opTown S k).2 ∧ XFr (MW m) (MA m) h h' ∧ xsz h' ≤ xsz h + 18 ∧ xsl h' ≤ xsl h + 190) := by
    intro k0
    rw [show opTown S k = _ from if_neg k0]
    refine Wp.vc 400 [] rfl ?_
    refine U.refK rfl (Nat.le_of_ble_eq_true rfl) (fun h1 U1 => ?_)
    refine Wp.vc 400 [] rfl ?_
    have z1 := U1.2.2.2.1
    have z2 := U1.2.2.2.2
    exact ⟨trivial, _, rfl, rfl, U1.1, U1.2.2.1, by omega, by omega⟩
  refine Wp.vc 400 [17, 23] rfl ?_
  rw [f72]
  refine ⟨fun w => ref (by omega), fun w => ⟨isF tm rfl, fun w2 => ?_, fun w2 => ref (by omega)⟩⟩
  have k0 : 0 ≤ k ∧ k ≤ ((sTp S).length : Int) := ⟨by omega, w2⟩
  clear ref
  rw [show opTown S k = _ from if_pos k0]
  obtain ⟨t, ht⟩ : ∃ t, t = xsz g := ⟨_, rfl⟩
  obtain ⟨h1, hh1⟩ : ∃ h1, h1 = xnewo (xputf (xputf (xputf (xputf g m 73 k) m 72 0) m 74 0) m 78 0) 15 27 := ⟨_, rfl⟩
  have q1 : XFr (fun z f => z = m ∧ (f = 72 ∨ f = 73 ∨ f = 74 ∨ f = 78)) (fun _ => False) g h1 := by
    rw [hh1]
    exact (((((XFr.refl g).putf (Or.inr ⟨rfl, by decide⟩)).putf (Or.inr ⟨rfl, by decide⟩)).putf (Or.inr ⟨rfl, by decide⟩)).putf (Or.inr ⟨rfl, by decide⟩)).newo
  have g1 : ∀ f, f ≠ 72 → f ≠ 73 → f ≠ 74 → f ≠ 78 → xfl h1 m f = xfl g m f := fun f a b c e => q1.2.2.2.1 m f (by omega) (fun w => by omega)
  have mne : m ≠ xsz g := by omega
  have mne' : ¬ m = xsz (xputf (xputf (xputf (xputf g m 73 k) m 72 0) m 74 0) m 78 0) := mne
  have g73 : xfl h1 m 73 = k := by rw [hh1, xfl_newo, if_neg mne', pf_ne (by decide), pf_ne (by decide), pf_ne (by decide), pf_eq]
  have g72 : xfl h1 m 72 = 0 := by rw [hh1, xfl_newo, if_neg mne', pf_ne (by decide), pf_ne (by decide), pf_eq]
  have g74 : xfl h1 m 74 = 0 := by rw [hh1, xfl_newo, if_neg mne', pf_ne (by decide), pf_eq]
  have g78 : xfl h1 m 78 = 0 := by rw [hh1, xfl_newo, if_neg mne', pf_eq]
  have tt1 : xty h1 t = some (true, 15, none) := by rw [hh1, xty_newo, if_pos (by rw [ht]; rfl)]
  have f01 : ∀ f, xfl h1 t f = 0 := fun f => by rw [hh1, xfl_newo, if_pos (by rw [ht]; rfl)]
  have s1 : xsz h1 = t + 1 := by rw [hh1, xsz_newo, ht]; rfl
  have l1 : xsl h1 = xsl g + 27 := by rw [hh1, xsl_newo]; rfl
  have tm1 : xty h1 m = some (true, 9, none) := (q1.2.2.1 m (by omega)).trans tm
  refine Wp.vc 400 [] rfl ?_
  rw [← hh1, show xsz (xputf (xputf (xputf (xputf g m 73 k) m 72 0) m 74 0) m 78 0) = t from ht.symm]
  clear hh1
  refine ⟨isW tm rfl, isW tm rfl, isW tm rfl, isW tm rfl, ?_⟩
  refine Wp.callR (j := 0) rfl (Nat.le_of_ble_eq_true rfl) ⟨true, tt1⟩ (m_Town_init tt1 s1) (fun v h2 q => ?_)
  obtain ⟨rfl, NA, za⟩ := q
  have NA : NAcc h1 h2 t mArr := NA
  have s2 : xsz h2 = t + 18 := NA.2.1.trans (by show t + 1 + 17 = t + 18; omega)
  have l2 : xsl h2 = xsl g + 190 := by
    rw [NA.2.2.1, l1]
    show xsl g + 27 + 163 = _
    omega
  have q2 : XFr (xOf t) xNoA h1 h2 := NA.1
  have m2 : ∀ f, xfl h2 m f = xfl h1 m f := fun f => q2.2.2.2.1 m f (by omega) (fun w => by have w : m = t := w; omega)
  obtain ⟨h3, hh3⟩ : ∃ h3, h3 = xputf (xputf h2 m 70 t) m 75 0 := ⟨_, rfl⟩
  have q3 : XFr (fun z f => z = m ∧ (f = 70 ∨ f = 75)) (fun _ => False) h2 h3 := by
    rw [hh3]
    exact ((XFr.refl h2).putf (Or.inr ⟨rfl, Or.inl rfl⟩)).putf (Or.inr ⟨rfl, Or.inr rfl⟩)
  have tm2 : xty h2 m = some (true, 9, none) := (q2.2.2.1 m (by omega)).trans tm1
  have tm3 : xty h3 m = some (true, 9, none) := (q3.2.2.1 m (by omega)).trans tm2
  have p3 : XFr (fun z f => z = m ∧ (f = 70 ∨ (72 ≤ f ∧ f ≤ 75) ∨ f = 78)) (fun _ => False) g h3 := (XFr.sub (q1.mono (fun z f _ w => ⟨w.1, by omega⟩) (fun _ _ w => w)) q2 (by omega)).trans q3 (fun z f _ w => ⟨w.1, by omega⟩) (fun _ _ w => w)
  have s3 : xsz h3 = t + 18 := by rw [hh3]; exact s2
  have l3 : xsl h3 = xsl g + 190 := by rw [hh3]; exact l2
  have f370 : xfl h3 m 70 = t := by rw [hh3, pf_ne (by decide), pf_eq]
  have f375 : xfl h3 m 75 = 0 := by rw [hh3, pf_eq]
  have f3 : ∀ f, f ≠ 70 → f ≠ 75 → xfl h3 m f = xfl h1 m f := fun f a b => (q3.2.2.2.1 m f (by omega) (fun w => by omega)).trans (m2 f)
  have L := U.lay
  have L3 : ModelL h3 m := L.keep p3 (by omega) (fun f hf w => by
    rcases w.2 with e | ⟨e0, e1⟩ | e
    · rw [e] at hf
      cases hf
    · rcases (by omega : f = 72 ∨ f = 73 ∨ f = 74 ∨ f = 75) with rfl | rfl | rfl | rfl <;> cases hf
    · rw [e] at hf
      cases hf)
  obtain ⟨Y, F⟩ := MTy.first (z0 := t) NA tt1 (Int.le_refl _) f01 za 0 (by decide)
  have a3 : Above t h2 h3 := Above.of q3 (fun z f hz _ _ w => by omega) (fun z hz w => w)
  let K : XX := (m, t, 0, sTp S, k, h)
  have C3 : MC m t (sTp S) k h3 := ⟨⟨bnd.1, by omega, by omega⟩, tm3, ⟨L3.2.1.1, L3.2.1.2, fun j hj => (p3.2.2.2.2 _ _ (by omega) (fun w => w)).trans (U.1.2.2.1.2 j (by omega))⟩, ⟨k0.1, by omega⟩, (C.keep pU (by omega) (fun z f hz w => by have := w.1; omega) (fun z hz w => by have := w.1; omega)).keep p3 (by omega) (fun z f hz w => by have := w.1; omega) (fun z hz w => w), (f3 _ (by decide) (by decide)).trans g73⟩
  have R3 : MRt K h3 pt0 0 := by
    show MTy t h3 (xfl h3 m 70) ∧ MTf h3 (xfl h3 m 70) pt0 0
    rw [f370]
    exact ⟨Y.keep a3, F.keep a3 Y⟩
  have ge := m_goesOn0 (d := d + 11) C3 (by rw [f375]; decide) ((f3 _ (by decide) (by decide)).trans g74) ((f3 _ (by decide) (by decide)).trans g78) ⟨Int.le_refl _, k0.1⟩
  refine Wp.vc 400 [] rfl ?_
  rw [← hh3]
  clear hh3
  refine ⟨isW tm2 rfl, isW tm2 rfl, ?_⟩
  refine Wp.callR (j := 0) rfl (Nat.le_of_ble_eq_true rfl) ⟨true, tm3⟩ ge (fun v h4 q => ?_)
  obtain ⟨rfl, tk4, p4⟩ := q
  have C4 : MC m t (sTp S) k h4 := C3.keep p4
  have Z4 : MZ K h4 (.inl (nxt (kt K) (kn K) 0)) := ⟨C4, tk4, fun l e => by cases e; exact (nxt_ok ⟨Int.le_refl _, k0.1⟩).1⟩
  have R4 : MRt K h4 pt0 (le_ (nxt (kt K) (kn K) 0)) := by
    have a4 : Above t h3 h4 := FrM.above p4 (by omega)
    have e4 : xfl h4 m 70 = xfl h3 m 70 := p4.1.2.2.2.1 m 70 (by omega) (fun w => by omega)
    show MTy t h4 (xfl h4 m 70) ∧ MTf h4 (xfl h4 m 70) pt0 _
    rw [e4]
    have F4 := (R3.2.keep a4 R3.1 : MTf h4 (xfl h3 m 70) pt0 0)
    have lo := (nxt_ok (tp := sTp S) (n := k) ⟨Int.le_refl 0, k0.1⟩)
    have lo2 : 0 ≤ le_ (nxt (kt K) (kn K) 0) := by
      have a := lo.1.1
      have b := lo.2
      show 0 ≤ le_ (nxt (sTp S) k 0)
      omega
    exact ⟨R3.1.keep a4, F4.1, ⟨F4.2.1.1, F4.2.1.2.1, Int.le_trans F4.2.1.2.2 lo2⟩, F4.2.2⟩
  have tm4 : xty h4 m = some (true, 9, none) := C4.2.1
  refine Wp.vc 400 [] rfl ?_
  refine Wp.callR (j := 0) rfl (Nat.le_of_ble_eq_true rfl) ⟨true, tm4⟩ (m_readAll (d := d) Z4 R4) (fun v h5 q => ?_)
  obtain ⟨rfl, p5, qr, ql⟩ := q
  have p35 : FrMT K h3 h5 := (FrM.mt (K := K) p4).trans p5
  have p35 : XFr (fun z f => (z = m ∧ 74 ≤ f ∧ f ≤ 80) ∨ t ≤ z) (fun z => t ≤ z) h3 h5 ∧ xsz h5 = xsz h3 ∧ xsl h5 = xsl h3 := p35
  have pg5 : XFr (fun z f => z = m ∧ (f = 70 ∨ (72 ≤ f ∧ f ≤ 80))) (fun _ => False) g h5 := (p3.mono (fun z f _ w => ⟨w.1, by omega⟩) (fun _ _ w => w)).trans p35.1 (fun z f hz w => by
    rcases w with w | w
    · exact ⟨w.1, by omega⟩
    · omega) (fun z hz w => by omega)
  have s5 : xsz h5 = t + 18 := p35.2.1.trans s3
  have l5 : xsl h5 = xsl g + 190 := p35.2.2.trans l3
  have tm5 : xty h5 m = some (true, 9, none) := (pg5.2.2.1 m (by omega)).trans tm
  have h5f : ∀ f, ¬ (74 ≤ f ∧ f ≤ 80) → xfl h5 m f = xfl h3 m f := fun f n => p35.1.2.2.2.1 m f (by omega) (fun w => by omega)
  have f572 : xfl h5 m 72 = 0 := (h5f _ (by decide)).trans ((f3 _ (by decide) (by decide)).trans g72)
  have f570 : xfl h5 m 70 = t := (h5f _ (by decide)).trans f370
  have fin5 : ∀ f, f = 70 ∨ (72 ≤ f ∧ f ≤ 80) → xfin f = false := fun f w => by
    rcases (by omega : f = 70 ∨ f = 72 ∨ f = 73 ∨ f = 74 ∨ f = 75 ∨ f = 76 ∨ f = 77 ∨ f = 78 ∨ f = 79 ∨ f = 80) with rfl | rfl | rfl | rfl | rfl | rfl | rfl | rfl | rfl | rfl <;> rfl
  have L5 : ModelL h5 m := L.keep pg5 (by omega) (fun f hf w => by rw [fin5 f w.2] at hf; cases hf)
  have tot : XFr (MW m) (MA m) g h5 := pg5.mono (fun z f _ w => ⟨w.1, fin5 f w.2⟩) (fun _ _ w => w.elim)
  show Wp _ _ _ _ _ _ (XRet fun v h' => v = some (.inl ((match rTown (kt K) (kn K) with
    | .inl T => (tnh T, (some T, V0 T, [], [], (0, -1, 0), []))
    | .inr f => (-1, (S.1, S.2.1, S.2.2.1, S.2.2.2.1, (4, f.2, f.1), []))) : Int × XSt).1) ∧ Rm h' B m ((match rTown (kt K) (kn K) with
    | .inl T => (tnh T, (some T, V0 T, [], [], (0, -1, 0), []))
    | .inr f => (-1, (S.1, S.2.1, S.2.2.1, S.2.2.2.1, (4, f.2, f.1), []))) : Int × XSt).2 ∧ XFr (MW m) (MA m) h h' ∧ xsz h' ≤ xsz h + 18 ∧ xsl h' ≤ xsl h + 190)
  cases e : rTown (kt K) (kn K) with
  | inr f =>
    dsimp only
    have Z5 := qr f e
    obtain ⟨-, e78, e79⟩ := Z5.2.1
    have e78 : xfl h5 m 78 = f.1 := e78
    have e79 : xfl h5 m 79 = f.2 := e79
    have fp := fp_town f e
    obtain ⟨h6, hh6⟩ : ∃ h6, h6 = xputf (xputf h5 m 67 4) m 68 f.2 := ⟨_, rfl⟩
    have p6 : XFr (fun z f => z = m ∧ (f = 67 ∨ f = 68)) (fun _ => False) h5 h6 := by
      rw [hh6]
      exact ((XFr.refl h5).putf (Or.inr ⟨rfl, Or.inl rfl⟩)).putf (Or.inr ⟨rfl, Or.inr rfl⟩)
    have pg6 : XFr (fun z f => z = m ∧ (f = 67 ∨ f = 68 ∨ f = 70 ∨ (72 ≤ f ∧ f ≤ 80))) (fun _ => False) g h6 := (pg5.mono (fun z f _ w => ⟨w.1, by omega⟩) (fun _ _ w => w)).trans p6 (fun z f _ w => ⟨w.1, by omega⟩) (fun _ _ w => w)
    have u : ∀ f, ¬ (f = 67 ∨ f = 68 ∨ f = 70 ∨ (72 ≤ f ∧ f ≤ 80)) → xfl h6 m f = xfl g m f := fun f n => pg6.2.2.2.1 m f (by omega) (fun w => n w.2)
    have u5 : ∀ f, f ≠ 67 → f ≠ 68 → xfl h6 m f = xfl h5 m f := fun f a b => p6.2.2.2.1 m f (by omega) (fun w => by omega)
    have fin6 : ∀ f, f = 67 ∨ f = 68 ∨ f = 70 ∨ (72 ≤ f ∧ f ≤ 80) → xfin f = false := fun f w => by
      rcases w with rfl | rfl | w
      · rfl
      · rfl
      · exact fin5 f w
    have ua : ∀ z i, z < xsz g → xar h6 z i = xar g z i := fun z i hz => pg6.2.2.2.2 _ i hz (fun w => w)
    have R6 : Rm h6 B m (S.1, S.2.1, S.2.2.1, S.2.2.2.1, (4, f.2, f.1), []) := by
      refine Rm.re U.1 (pg6.mono (fun z f _ w => ⟨w.1, fin6 f w.2⟩) (fun _ _ w => w.elim)) rfl (u 69 (by decide)) ⟨(u5 _ (by decide) (by decide)).trans f572, fun j hj => absurd hj (Nat.not_lt_zero _)⟩ ⟨?_, ?_, (u5 _ (by decide) (by decide)).trans e78⟩ ⟨(u 85 (by decide)).trans U.1.2.2.2.2.1.1, (u 84 (by decide)).trans U.1.2.2.2.2.1.2⟩ (fun T hT => ?_)
      · show xfl h6 m 67 = 4
        rw [hh6, pf_ne (by decide), pf_eq]
      · show xfl h6 m 68 = f.2
        rw [hh6, pf_eq]
      · have RT := U.1.2.2.2.2.2
        unfold RmT at RT
        rw [hT] at RT
        obtain ⟨-, b1, b2, b3, b4, -⟩ := RT
        refine ⟨⟨fun i i0 i1 => (ua _ _ (by omega)).trans (b1 i i0 i1), fun q q0 q1 => ⟨(ua _ _ (by omega)).trans (b2 q q0 q1).1, (ua _ _ (by omega)).trans (b2 q q0 q1).2⟩⟩, fun k V hk => ?_, fun k V hk => ?_⟩
        · have a := b3 k V hk
          exact ⟨fun i i0 i1 => (ua _ _ (by omega)).trans (a.1 i i0 i1), fun q q0 q1 => ⟨(ua _ _ (by omega)).trans (a.2 q q0 q1).1, (ua _ _ (by omega)).trans (a.2 q q0 q1).2⟩⟩
        · have a := b4 k V hk
          exact ⟨fun i i0 i1 => (ua _ _ (by omega)).trans (a.1 i i0 i1), fun q q0 q1 => ⟨(ua _ _ (by omega)).trans (a.2 q q0 q1).1, (ua _ _ (by omega)).trans (a.2 q q0 q1).2⟩⟩
    refine Wp.vc 400 [89] rfl ?_
    simp only [xfl_putf]
    rw [e78, if_neg (fun w => absurd w.2 (by decide)), e79, ← hh6]
    have s6 : xsz h6 = xsz h5 := by rw [hh6]; rfl
    have l6 : xsl h6 = xsl h5 := by rw [hh6]; rfl
    have pt : XFr (MW m) (MA m) h h6 := (pU.trans tot (fun _ _ _ w => w) (fun _ _ w => w)).trans p6 (fun z f _ w => ⟨w.1, fin6 f (by omega)⟩) (fun _ _ w => w.elim)
    refine ⟨isF tm5 rfl, fun w => absurd w (by omega), fun _ => ⟨isW tm5 rfl, isF tm5 rfl, isW tm5 rfl, trivial, _, rfl, rfl, R6, pt, by omega, by omega⟩⟩
  | inl T =>
    dsimp only
    obtain ⟨P, l, eP, Z5, R5, I5, h2⟩ := ql T e
    have TO : TOK T := by rw [← eP]; exact I5.ok (by rw [eP]; exact h2)
    have e78 : xfl h5 m 78 = 0 := Z5.2.1.2.2.1
    obtain ⟨Y5, F5⟩ : MTy t h5 (xfl h5 m 70) ∧ MTf h5 (xfl h5 m 70) P (le_ l) := R5
    rw [f570] at Y5 F5
    have X5 : TownM h5 B t T := by
      have := (Y5.m F5).low (B := B) (by omega)
      rwa [eP] at this
    have a := m_tail (d := d + 12) (k0 := k) ⟨bnd.1, bnd.2.1⟩ L5 f572 e78 f570 X5 TO (Y5.2.2.1 146 (by decide) (by decide)) (by constructor <;> (show _; omega)) (Y5.2.2.2.1 4 (by decide)) (fun i i0 i1 => by
      have := (F5.2.2.1 i i0 (by rw [eP]; exact i1)).2.2.2.1
      rw [eP] at this
      exact this)
    refine Wp.vc 400 [89] rfl ?_
    rw [e78]
    refine ⟨isF tm5 rfl, fun _ => ?_, fun w => absurd (Int.le_refl _) w⟩
    obtain ⟨o, h', xr, v, e1, e2, e3, e4, e5, e6⟩ := a
    refine ⟨o, h', xr, v, e1, e2, e3, (pU.trans tot (fun _ _ _ w => w) (fun _ _ w => w)).trans e4 (fun _ _ _ w => w) (fun _ _ w => w), by omega, by omega⟩
