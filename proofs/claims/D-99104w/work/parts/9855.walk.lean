/-! WALKS, 94: laysStreets: the shortest minutes -/
set_option maxRecDepth 100000
set_option maxHeartbeats 4000000
def d0 (T : XTw) (a b : Int) : Int := if a = b then 0 else if 0 < tst T a b then tst T a b else 99999
/-- what holds of the row when middles below k are done -/
def FwOK (T : XTw) (k : Int) (E : Int → Int → Int) : Prop := (∀ a b : Int, 0 ≤ a → a < tnh T → 0 ≤ b → b < tnh T → 0 ≤ E a b ∧ E a b ≤ 99999 ∧ E a b ≤ d0 T a b ∧ (E a b < 99999 → wreach T a b (E a b))) ∧ (∀ a : Int, 0 ≤ a → a < tnh T → E a a = 0) ∧ ∀ a b x : Int, 0 ≤ a → a < tnh T → 0 ≤ b → b < tnh T → 0 ≤ x → x < k → E a b ≤ E a x + E x b
theorem wkl_app {T : XTw} : ∀ {l l' : List Int} {a c c' b : Int}, wkl T a l = some c → (a :: l).getLast (List.cons_ne_nil _ _) = b → wkl T b l' = some c' → wkl T a (l ++ l') = some (c + c')
  | [], l', a, c, c', b, h, e, h' => by
    cases h
    have e : a = b := e
    rw [List.nil_append, e, h', Int.zero_add]
  | x :: l, l', a, c, c', b, h, e, h' => by
    obtain ⟨p, c1, h1, rfl⟩ := wkl_cons h
    have ih := wkl_app h1 ((List.getLast_cons (a := a) (List.cons_ne_nil _ _)).symm.trans e) h'
    rw [List.cons_append, wkl_mk p ih, Int.add_assoc]
theorem last_app : ∀ {l l' : List Int} {a b g : Int}, (a :: l).getLast (List.cons_ne_nil _ _) = b → (b :: l').getLast (List.cons_ne_nil _ _) = g → (a :: (l ++ l')).getLast (List.cons_ne_nil _ _) = g
  | [], l', a, b, g, e, e' => by
    have e : a = b := e
    subst e
    exact e'
  | x :: l, l', a, b, g, e, e' => by
    have ih := last_app (l := l) (l' := l') (a := x) ((List.getLast_cons (a := a) (List.cons_ne_nil _ _)).symm.trans e) e'
    exact (List.getLast_cons (a := a) (l := x :: (l ++ l')) (List.cons_ne_nil _ _)).trans ih
theorem wreach_trans {T : XTw} {a b g M N : Int} (p : wreach T a b M) (q : wreach T b g N) : wreach T a g (M + N) := by
  obtain ⟨l, c, h1, h2, h3, h4⟩ := p
  obtain ⟨l', c', k1, k2, k3, k4⟩ := q
  refine ⟨l ++ l', c + c', fun x hx => ?_, last_app h2 k2, wkl_app h3 h2 k3, by omega⟩
  rcases List.mem_append.mp hx with h | h
  · exact h1 x h
  · exact k1 x h
theorem FwOK.first {T : XTw} (O : TOK T) : FwOK T 0 (d0 T) := by
  have st := O.2.2.2.2.2.2.1
  have hn := O.2.2.1
  refine ⟨fun a b a0 a1 b0 b1 => ?_, fun a _ _ => if_pos rfl, fun a b x _ _ _ _ x0 x1 => by omega⟩
  have s := st a b a0 (by omega) b0 (by omega)
  unfold d0
  by_cases e : a = b
  · rw [if_pos e]
    exact ⟨by decide, by decide, by decide, fun _ => ⟨[], 0, fun x hx => absurd hx List.not_mem_nil, e, rfl, Int.le_refl _⟩⟩
  · rw [if_neg e]
    by_cases p : 0 < tst T a b
    · rw [if_pos p]
      refine ⟨by omega, by omega, Int.le_refl _, fun _ => ⟨[b], tst T a b + 0, fun x hx => ?_, rfl, wkl_mk p rfl, by omega⟩⟩
      rw [List.mem_singleton.mp hx]
      exact ⟨b0, b1⟩
    · rw [if_neg p]
      exact ⟨by decide, by decide, by decide, fun w => absurd w (by decide)⟩
def fwN (E : Int → Int → Int) (k : Int) : Int → Int → Int := fun a b => if E a k + E k b < E a b then E a k + E k b else E a b
theorem FwOK.step {T : XTw} {k : Int} {E : Int → Int → Int} (F : FwOK T k E) (k0 : 0 ≤ k ∧ k < tnh T) : FwOK T (k + 1) (fwN E k) := by
  obtain ⟨F1, F2, F3⟩ := F
  have kk := F2 k k0.1 k0.2
  refine ⟨fun a b a0 a1 b0 b1 => ?_, fun a a0 a1 => ?_, fun a b x a0 a1 b0 b1 x0 x1 => ?_⟩
  · obtain ⟨p1, p2, p3, p4⟩ := F1 a b a0 a1 b0 b1
    obtain ⟨q1, q2, q3, q4⟩ := F1 a k a0 a1 k0.1 k0.2
    obtain ⟨r1, r2, r3, r4⟩ := F1 k b k0.1 k0.2 b0 b1
    unfold fwN
    split
    · next lt => exact ⟨by omega, by omega, by omega, fun _ => wreach_trans (q4 (by omega)) (r4 (by omega))⟩
    · exact ⟨p1, p2, p3, p4⟩
  · have q1 := (F1 a k a0 a1 k0.1 k0.2).1
    have r1 := (F1 k a k0.1 k0.2 a0 a1).1
    have e := F2 a a0 a1
    unfold fwN
    rw [e, if_neg (by omega)]
  · have ab := F1 a b a0 a1 b0 b1
    have ak := F1 a k a0 a1 k0.1 k0.2
    have kb := F1 k b k0.1 k0.2 b0 b1
    unfold fwN
    by_cases e : x = k
    · rw [e, kk]
      repeat' split
      all_goals omega
    · have x1 : x < k := by omega
      have xn : x < tnh T := by omega
      have ax := F1 a x a0 a1 x0 xn
      have xb := F1 x b x0 xn b0 b1
      have kx := F1 k x k0.1 k0.2 x0 xn
      have xk := F1 x k x0 xn k0.1 k0.2
      have t1 := F3 a b x a0 a1 b0 b1 x0 x1
      have t2 := F3 a k x a0 a1 k0.1 k0.2 x0 x1
      have t3 := F3 k b x k0.1 k0.2 b0 b1 x0 x1
      clear F1 F2 F3
      repeat' split
      all_goals omega
theorem FwOK.far {T : XTw} {E : Int → Int → Int} {f : Int → Int} (F : FwOK T (tnh T) E) (hf : ∀ a b : Int, 0 ≤ a → a < tnh T → 0 ≤ b → b < tnh T → f (7 * a + b) = E a b) : farOK f T := by
  intro a b M a0 a1 b0 b1 M0 M1
  rw [hf a b a0 a1 b0 b1]
  constructor
  · intro h
    obtain ⟨l, c, h1, h2, h3, h4⟩ := (F.1 a b a0 a1 b0 b1).2.2.2 (by omega)
    exact ⟨l, c, h1, h2, h3, by omega⟩
  · rintro ⟨l, c, h1, h2, h3, h4⟩
    have key : ∀ (l : List Int) (a c : Int), (0 ≤ a ∧ a < tnh T) → (∀ x ∈ l, 0 ≤ x ∧ x < tnh T) → (a :: l).getLast (List.cons_ne_nil _ _) = b → wkl T a l = some c → E a b ≤ c := by
      intro l
      induction l with
      | nil =>
        intro a c ha _ e h
        have e : a = b := e
        cases h
        rw [e, F.2.1 b b0 b1]
        decide
      | cons x l ih =>
        intro a c ha hr e h
        obtain ⟨p, c1, h1, rfl⟩ := wkl_cons h
        have hx := hr x List.mem_cons_self
        have i := ih x c1 hx (fun y hy => hr y (List.mem_cons_of_mem _ hy)) ((List.getLast_cons (a := a) (List.cons_ne_nil _ _)).symm.trans e) h1
        have t := F.2.2 a b x ha.1 ha.2 b0 b1 hx.1 hx.2
        have d := (F.1 a x ha.1 ha.2 hx.1 hx.2).2.2.1
        have d : E a x ≤ tst T a x := by
          unfold d0 at d
          by_cases q : a = x
          · rw [if_pos q] at d
            omega
          · rw [if_neg q, if_pos p] at d
            exact d
        omega
    have := key l a c ⟨a0, a1⟩ h1 h2 h3
    omega
theorem m_lays {d : Nat} {h : XH} {m t B : Int} {T : XTw} (tm : xty h m = some (true, 9, none)) (f69 : xfl h m 69 = t) (X : TownM h B t T) (O : TOK T) (t15 : xty h (m + 15) = some (true, 0, some 49)) (f103 : xfl h m 103 = m + 15) (hm : m + 16 ≤ B ∧ B ≤ xsz h) : WpM d 173 [.inr (.inr m)] h (XRet fun v h' => v = none ∧ farOK (xar h' (m + 15)) T ∧ XFr (fun _ _ => False) (fun z => z = m + 15) h h' ∧ xsz h' = xsz h ∧ xsl h' = xsl h) := by
  have hn := O.2.2.1
  have st := O.2.2.2.2.2.2.1
  have tt := X.1.2.2
  have tB := X.1.1
  have f135 : xfl h t 135 = tnh T := X.2.2.1.2.2.1
  have c8 := X.2.1.2.1
  have ne8 : xfl h t 150 ≠ m + 15 := by have := c8.1; omega
  have sv : ∀ i j : Int, 0 ≤ i → i < 7 → 0 ≤ j → j < 7 → xar h (xfl h t 150) (7 * i + j) = tst T i j := X.2.2.2.2.2.2.2
  let J : XH → Prop := fun g => XFr (fun _ _ => False) (fun z => z = m + 15) h g ∧ xsz g = xsz h ∧ xsl g = xsl h
  have jf : ∀ g z f, J g → z < xsz h → xfl g z f = xfl h z f := fun g z f j hz => j.1.2.2.2.1 z f hz (fun w => w)
  have jt : ∀ g z, J g → z < xsz h → xty g z = xty h z := fun g z j hz => j.1.2.2.1 z hz
  have jp : ∀ g i v, J g → J (xputa g (m + 15) i v) := fun g i v j => ⟨j.1.puta (Or.inr rfl), j.2⟩
  have tlt := X.1.2.1
  let D : XH → Int → Int → Int := fun g a b => xar g (m + 15) (7 * a + b)
  let Fin : XO → XH → Prop := XRet fun v h' => v = none ∧ farOK (xar h' (m + 15)) T ∧ XFr (fun _ _ => False) (fun z => z = m + 15) h h' ∧ xsz h' = xsz h ∧ xsl h' = xsl h
  have facts : ∀ g, J g → xty g m = some (true, 9, none) ∧ xty g (m + 15) = some (true, 0, some 49) ∧ xfl g m 103 = m + 15 := fun g j => ⟨(jt g _ j (by omega)).trans tm, (jt g _ j (by omega)).trans t15, (jf g _ _ j (by omega)).trans f103⟩
  -- middles
  have mid : ∀ (k : Int) (g : XH), k ≤ tnh T → (0 ≤ k ∧ J g ∧ ∃ E, FwOK T k E ∧ ∀ a b : Int, 0 ≤ a → a < tnh T → 0 ≤ b → b < tnh T → D g a b = E a b) → ∀ l3 l4 l5, Wp d 173 72 [some (.inr (.inr m)), some (.inl (tnh T)), some (.inl k), l3, l4, l5] [] g Fin := by
    refine loopUp (G := fun k g => ∀ l3 l4 l5, Wp d 173 72 [some (.inr (.inr m)), some (.inl (tnh T)), some (.inl k), l3, l4, l5] [] g Fin) (tnh T) ?_ ?_
    · rintro k g ⟨k0, j, E, FE, hE⟩ hk ih l3 l4 l5
      have kk := FE.2.1 k k0 hk
      -- what has been gone over: rows below i, of row i columns below b
      have row : ∀ (i : Int) (g2 : XH), i ≤ tnh T → (0 ≤ i ∧ J g2 ∧ ∀ a b : Int, 0 ≤ a → a < tnh T → 0 ≤ b → b < tnh T → D g2 a b = if a < i then fwN E k a b else E a b) → ∀ l4 l5, Wp d 173 79 [some (.inr (.inr m)), some (.inl (tnh T)), some (.inl k), some (.inl i), l4, l5] [] g2 Fin := by
        refine loopUp (G := fun i g2 => ∀ l4 l5, Wp d 173 79 [some (.inr (.inr m)), some (.inl (tnh T)), some (.inl k), some (.inl i), l4, l5] [] g2 Fin) (tnh T) ?_ ?_
        · rintro i g2 ⟨i0, j2, hD⟩ hi ihr l4 l5
          have col : ∀ (x : Int) (g3 : XH), x ≤ tnh T → (0 ≤ x ∧ J g3 ∧ ∀ a b : Int, 0 ≤ a → a < tnh T → 0 ≤ b → b < tnh T → D g3 a b = if a < i ∨ (a = i ∧ b < x) then fwN E k a b else E a b) → ∀ l5, Wp d 173 87 [some (.inr (.inr m)), some (.inl (tnh T)), some (.inl k), some (.inl i), some (.inl x), l5] [] g3 Fin := by
            refine loopUp (G := fun x g3 => ∀ l5, Wp d 173 87 [some (.inr (.inr m)), some (.inl (tnh T)), some (.inl k), some (.inl i), some (.inl x), l5] [] g3 Fin) (tnh T) ?_ ?_
            · rintro x g3 ⟨x0, j3, hX⟩ hx ihc l5
              obtain ⟨m1, m2, m3⟩ := facts g3 j3
              have eik : D g3 i k = E i k := by
                rw [hX i k i0 hi k0 hk]
                split
                · unfold fwN
                  have := (FE.1 i k i0 hi k0 hk).1
                  rw [kk, if_neg (by omega)]
                · rfl
              have ekx : D g3 k x = E k x := by
                rw [hX k x k0 hk x0 hx]
                split
                · unfold fwN
                  rw [kk, if_neg (by omega)]
                · rfl
              have eix : D g3 i x = E i x := by rw [hX i x i0 hi x0 hx, if_neg (by omega)]
              have eik : xar g3 (m + 15) (7 * i + k) = E i k := eik
              have ekx : xar g3 (m + 15) (7 * k + x) = E k x := ekx
              have eix : xar g3 (m + 15) (7 * i + x) = E i x := eix
              have b1 := FE.1 i k i0 hi k0 hk
              have b2 := FE.1 k x k0 hk x0 hx
              have b3 := FE.1 i x i0 hi x0 hx
              have at150 : ∀ g4, J g4 → (∀ a b : Int, 0 ≤ a → a < tnh T → 0 ≤ b → b < tnh T → D g4 a b = if a = i ∧ b = x then fwN E k i x else D g3 a b) → Wp d 173 150 [some (.inr (.inr m)), some (.inl (tnh T)), some (.inl k), some (.inl i), some (.inl x), some (.inl (E i k + E k x))] [] g4 Fin := by
                intro g4 j4 h4
                have nx := ihc g4 ⟨by omega, j4, fun a b a0 a1 b0 b1 => by
                  rw [h4 a b a0 a1 b0 b1]
                  by_cases q : a = i ∧ b = x
                  · rw [if_pos q, if_pos (by omega), q.1, q.2]
                  · rw [if_neg q, hX a b a0 a1 b0 b1]
                    by_cases q2 : a < i ∨ (a = i ∧ b < x)
                    · rw [if_pos q2, if_pos (by omega)]
                    · rw [if_neg q2, if_neg (by omega)]⟩ (some (.inl (E i k + E k x)))
                refine Wp.vc 400 [87] rfl ?_
                exact ⟨⟨by omega, by omega⟩, nx⟩
              refine Wp.vc 400 [87, 150] rfl ?_
              rw [m3, eik, ekx, eix]
              refine ⟨fun w => absurd w (by omega), fun _ => ⟨isF m1 rfl, ⟨by omega, by omega⟩, ⟨by omega, by omega⟩, isA m2 (by omega) (by omega), isF m1 rfl, ⟨by omega, by omega⟩, ⟨by omega, by omega⟩, isA m2 (by omega) (by omega), ⟨by omega, by omega⟩, isF m1 rfl, ⟨by omega, by omega⟩, ⟨by omega, by omega⟩, isA m2 (by omega) (by omega), fun w => ?_, fun w => ⟨isF m1 rfl, ⟨by omega, by omega⟩, ⟨by omega, by omega⟩, isB m2 (by omega) (by omega), ?_⟩⟩⟩
              · refine at150 g3 j3 (fun a b a0 a1 b0 b1 => ?_)
                by_cases q : a = i ∧ b = x
                · rw [if_pos q, q.1, q.2]
                  show xar g3 (m + 15) (7 * i + x) = _
                  rw [eix]
                  unfold fwN
                  rw [if_neg (by omega)]
                · rw [if_neg q]
              · refine at150 _ (jp g3 _ _ j3) (fun a b a0 a1 b0 b1 => ?_)
                show xar (xputa g3 (m + 15) (7 * i + x) (E i k + E k x)) (m + 15) (7 * a + b) = _
                rw [pa_eq]
                by_cases q : a = i ∧ b = x
                · rw [if_pos q, if_pos (by omega)]
                  unfold fwN
                  rw [if_pos (by omega)]
                · rw [if_neg q, if_neg (by omega)]
            · rintro g3 ⟨x0, j3, hX⟩ l5
              have nx := ihr g3 ⟨by omega, j3, fun a b a0 a1 b0 b1 => by
                rw [hX a b a0 a1 b0 b1]
                by_cases q : a < i + 1
                · rw [if_pos q, if_pos (by omega)]
                · rw [if_neg q, if_neg (by omega)]⟩ (some (.inl (tnh T))) l5
              refine Wp.vc 400 [93, 79] rfl ?_
              exact ⟨fun _ => ⟨⟨by omega, by omega⟩, nx⟩, fun w => absurd (Int.le_refl _) w⟩
          have c0 := col 0 g2 (by omega) ⟨Int.le_refl _, j2, fun a b a0 a1 b0 b1 => by
            rw [hD a b a0 a1 b0 b1]
            by_cases q : a < i
            · rw [if_pos q, if_pos (Or.inl q)]
            · rw [if_neg q, if_neg (by omega)]⟩ l5
          refine Wp.vc 400 [87] rfl ?_
          exact ⟨fun w => absurd w (by omega), fun _ => c0⟩
        · rintro g2 ⟨i0, j2, hD⟩ l4 l5
          have nx := ih g2 ⟨by omega, j2, fwN E k, FE.step ⟨k0, hk⟩, fun a b a0 a1 b0 b1 => by rw [hD a b a0 a1 b0 b1, if_pos a1]⟩ (some (.inl (tnh T))) l4 l5
          refine Wp.vc 400 [84, 72] rfl ?_
          exact ⟨fun _ => ⟨⟨by omega, by omega⟩, nx⟩, fun w => absurd (Int.le_refl _) w⟩
      have r0 := row 0 g (by omega) ⟨Int.le_refl _, j, fun a b a0 a1 b0 b1 => by rw [hE a b a0 a1 b0 b1, if_neg (by omega)]⟩ l4 l5
      refine Wp.vc 400 [79] rfl ?_
      exact ⟨fun w => absurd w (by omega), fun _ => r0⟩
    · rintro g ⟨k0, j, E, FE, hE⟩ l3 l4 l5
      have fo := FE.far (f := xar g (m + 15)) hE
      refine Wp.vc 400 [77] rfl ?_
      exact ⟨fun _ => ⟨trivial, _, rfl, rfl, fo, j.1, j.2.1, j.2.2⟩, fun w => absurd (Int.le_refl _) w⟩
  -- the beginning
  have beg : ∀ (i : Int) (g : XH), i ≤ 49 → (0 ≤ i ∧ J g ∧ ∀ a b : Int, 0 ≤ a → a < 7 → 0 ≤ b → b < 7 → 7 * a + b < i → D g a b = d0 T a b) → Wp d 173 10 [some (.inr (.inr m)), some (.inl (tnh T)), some (.inl i), none, none, none] [] g Fin := by
    refine loopUp (G := fun i g => Wp d 173 10 [some (.inr (.inr m)), some (.inl (tnh T)), some (.inl i), none, none, none] [] g Fin) 49 ?_ ?_
    · rintro i g ⟨i0, j, hD⟩ hi ih
      obtain ⟨m1, m2, m3⟩ := facts g j
      have g69 : xfl g m 69 = t := (jf g _ _ j (by omega)).trans f69
      have tt2 : xty g t = some (true, 15, none) := (jt g _ j tlt).trans tt
      have g150 : xfl g t 150 = xfl h t 150 := jf g _ _ j tlt
      have t8 : xty g (xfl h t 150) = some (true, 0, some 49) := (jt g _ j c8.2.1).trans c8.2.2
      obtain ⟨a, b, a0, a1, b0, b1, e⟩ : ∃ a b : Int, 0 ≤ a ∧ a < 7 ∧ 0 ≤ b ∧ b < 7 ∧ i = 7 * a + b := ⟨i / 7, i % 7, by omega, by omega, by omega, by omega, by omega⟩
      have g8 : xar g (xfl h t 150) i = tst T a b := by
        rw [j.1.2.2.2.2 _ _ c8.2.1 ne8, e]
        exact sv a b a0 a1 b0 b1
      have ed : i.tdiv 7 = a := by rw [Int.tdiv_eq_ediv_of_nonneg i0]; omega
      have em : i.tmod 7 = b := by rw [Int.tmod_eq_emod_of_nonneg i0]; omega
      have at63 : ∀ v, v = d0 T a b → Wp d 173 63 [some (.inr (.inr m)), some (.inl (tnh T)), some (.inl i), none, none, none] [.inl v, .inl i, .inr (.inr (m + 15))] g Fin := by
        intro v hv
        have nx := ih (xputa g (m + 15) i v) ⟨by omega, jp g _ _ j, fun a' b' a0' a1' b0' b1' lt => by
          show xar (xputa g (m + 15) i v) (m + 15) (7 * a' + b') = _
          rw [pa_eq]
          by_cases q : 7 * a' + b' = i
          · rw [if_pos q, hv, show a' = a by omega, show b' = b by omega]
          · rw [if_neg q]
            exact hD a' b' a0' a1' b0' b1' (by omega)⟩
        refine Wp.vc 400 [10] rfl ?_
        exact ⟨isB m2 i0 hi, ⟨by omega, by omega⟩, nx⟩
      refine Wp.vc 400 [10, 63, 70] rfl ?_
      rw [m3, ed, em, g69, g150, g8]
      refine ⟨fun w => absurd w (by omega), fun _ => ⟨isF m1 rfl, ⟨by decide, Or.inl i0⟩, ⟨by decide, Or.inl i0⟩, fun q => ⟨isF m1 rfl, isF tt2 rfl, isA t8 i0 hi, fun p => at63 _ ?_, fun p => ⟨isF m1 rfl, isF tt2 rfl, isA t8 i0 hi, at63 _ ?_⟩⟩, fun q => at63 _ ?_⟩⟩
      · unfold d0
        rw [if_neg q, if_neg (by omega)]
      · unfold d0
        rw [if_neg q, if_pos (by omega)]
      · unfold d0
        rw [if_pos (Decidable.of_not_not q)]
    · rintro g ⟨i0, j, hD⟩
      have k0 := mid 0 g (by omega) ⟨Int.le_refl _, j, d0 T, FwOK.first O, fun a b a0 a1 b0 b1 => hD a b a0 (by omega) b0 (by omega) (by omega)⟩ none none none
      refine Wp.vc 400 [16, 72] rfl ?_
      exact ⟨fun _ => k0, fun w => absurd (Int.le_refl _) w⟩
  have k0 := beg 0 h (by decide) ⟨Int.le_refl _, ⟨XFr.refl h, rfl, rfl⟩, fun a b a0 a1 b0 b1 lt => by omega⟩
  refine WpM.of rfl (Wp.vc 400 [10] rfl ?_)
  rw [f69, f135]
  exact ⟨isF tm rfl, isF tt rfl, k0⟩
