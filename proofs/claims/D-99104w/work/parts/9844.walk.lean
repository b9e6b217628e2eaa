/-! WALKS, 83: the model's reader: what is taken of a line -/
set_option maxRecDepth 100000
set_option maxHeartbeats 4000000
def MZ (K : XX) (h : XH) (o : Re LTk) : Prop := MC (ks K) (kz K) (kt K) (kn K) h ∧ MTk (ks K) h o ∧ ∀ l, o = .inl l → LOK (kn K) l
theorem MZ.tm {K : XX} {h : XH} {o : Re LTk} (Z : MZ K h o) : xty h (ks K) = some (true, 9, none) := Z.1.2.1
theorem MZ.cst {K : XX} {h : XH} {o : Re LTk} (Z : MZ K h o) (k : Nat) (hk : k < 41) : StrV h (xcs h k) (cw k) := (Z.1.2.2.2.2.1 k hk).1
theorem MZ.s5 {K : XX} {h : XH} {o : Re LTk} (Z : MZ K h o) : (xfl h (ks K) 75 = 5 ↔ ∃ f, o = .inr f) := by
  cases o with
  | inl l =>
    have k := (Z.2.2 l rfl).2.1
    have e := Z.2.1.1
    rw [e]
    constructor
    · intro w
      unfold mk_ at w
      rcases k with k | k | k | k | k <;> rw [k] at w <;> exact absurd w (by decide)
    · rintro ⟨f, w⟩
      cases w
  | inr f => exact ⟨fun _ => ⟨f, rfl⟩, fun _ => Z.2.1.1⟩
theorem m_goesOn {d : Nat} {K : XX} {h : XH} {o : Re LTk} (Z : MZ K h o) (hk : ∀ l, o = .inl l → lk l ≠ 1) : WpM (d + 1) 143 [.inr (.inr (ks K))] h (XRet fun v h' => v = none ∧ MZ K h' (rb o (fun l => .inl (ga (kt K) (kn K) l))) ∧ FrM (ks K) h h') := by
  cases o with
  | inl l =>
    have L := Z.2.2 l rfl
    have ln := L.1
    have ne : xfl h (ks K) 75 ≠ 5 := fun w => by
      obtain ⟨f, w⟩ := Z.s5.mp w
      cases w
    refine (m_goesOn0 (d := d) Z.1 ne (Z.2.1.2.2.2.1 (hk l rfl)) Z.2.1.2.2.1 ⟨by omega, by omega⟩).imp (fun o' h' q => ?_)
    obtain ⟨v, rfl, rfl, q1, q2⟩ := q
    exact ⟨_, rfl, rfl, ⟨Z.1.keep q2, q1, fun l' e => by
      cases e
      exact (nxt_ok ⟨by omega, by omega⟩).1⟩, q2⟩
  | inr f =>
    have tm := Z.tm
    have f75 := Z.2.1.1
    refine WpM.of rfl (Wp.vc 400 [9] rfl ?_)
    rw [f75]
    exact ⟨isF tm rfl, fun w => absurd rfl w, fun _ => ⟨trivial, _, rfl, rfl, Z, FrM.refl h⟩⟩
theorem m_flaw {d : Nat} {K : XX} {h : XH} {o : Re LTk} {k : Int} (Z : MZ K h o) : WpM d 152 [.inr (.inr (ks K)), .inl k] h (XRet fun v h' => v = none ∧ MZ K h' (rb o (fun l => .inr (k, la l))) ∧ FrM (ks K) h h') := by
  have tm := Z.tm
  cases o with
  | inl l =>
    have ne : xfl h (ks K) 75 ≠ 5 := fun w => by
      obtain ⟨f, w⟩ := Z.s5.mp w
      cases w
    have f76 := Z.2.1.2.1
    have p : FrM (ks K) h (xputf (xputf (xputf h (ks K) 78 k) (ks K) 79 (la l)) (ks K) 75 5) := FrM.putf (FrM.putf (FrM.putf (FrM.refl h) (by decide)) (by decide)) (by decide)
    refine WpM.of rfl (Wp.vc 400 [] rfl ?_)
    rw [show xfl (xputf h (ks K) 78 k) (ks K) 76 = la l by rw [xfl_putf, if_neg (fun w => absurd w.2 (by decide))]; exact f76]
    refine ⟨isF tm rfl, fun _ => ⟨isW tm rfl, isF tm rfl, isW tm rfl, isW tm rfl, trivial, _, rfl, rfl, ⟨Z.1.keep p, ⟨?_, ?_, ?_⟩, fun l' e => by cases e⟩, p⟩, fun w => absurd ne w⟩
    · rw [xfl_putf, if_pos ⟨rfl, rfl⟩]
    · rw [xfl_putf, if_neg (fun w => absurd w.2 (by decide)), xfl_putf, if_neg (fun w => absurd w.2 (by decide)), xfl_putf, if_pos ⟨rfl, rfl⟩]
    · rw [xfl_putf, if_neg (fun w => absurd w.2 (by decide)), xfl_putf, if_pos ⟨rfl, rfl⟩]
  | inr f =>
    have f75 := Z.2.1.1
    refine WpM.of rfl (Wp.vc 400 [9] rfl ?_)
    rw [f75]
    exact ⟨isF tm rfl, fun w => absurd rfl w, fun _ => ⟨trivial, _, rfl, rfl, Z, FrM.refl h⟩⟩
def isWd (o : Re LTk) (w : List Int) : Prop := match o with
  | .inl l => lk l = 2 ∧ lw l = w
  | .inr _ => False
theorem m_isWord {d : Nat} {K : XX} {h : XH} {o : Re LTk} {k : Nat} (Z : MZ K h o) (hk : k < 41) (xk : xword (cw k)) : WpM (d + 5) 149 [.inr (.inr (ks K)), .inr (.inr (xcs h k))] h (XE (some (.inl (xb (isWd o (cw k))))) h) := by
  have tm := Z.tm
  have pk := m_packed (d := d) (Z.cst k hk) xk.2.2
  cases o with
  | inl l =>
    obtain ⟨f75, -, -, -, f80, -⟩ := Z.2.1
    have L := Z.2.2 l rfl
    by_cases e2 : lk l = 2
    · have f80 := f80 e2
      have xw := (L.2.2.2.1 e2).1
      have f75 : xfl h (ks K) 75 = 2 := by rw [f75, e2]; rfl
      refine WpM.of rfl (Wp.vc 400 [] rfl ?_)
      rw [f75, f80]
      refine ⟨isF tm rfl, fun w => absurd rfl w, fun _ => ⟨isF tm rfl, ?_⟩⟩
      refine Wp.callE (j := 0) rfl (Nat.le_of_ble_eq_true rfl) trivial pk ?_
      have cm : xcmp (xpack (lw l)) (xpack (cw k)) = 0 ↔ lw l = cw k := by
        rw [← xpack_inj xw xk]
        unfold xcmp
        constructor
        · intro w
          split at w
          · cases w
          · split at w
            · assumption
            · cases w
        · intro w
          rw [if_neg (by omega), if_pos w]
      by_cases q : lw l = cw k
      · rw [xb_pos (show isWd (.inl l) (cw k) from ⟨e2, q⟩)]
        refine Wp.vc 400 [] rfl ?_
        exact ⟨fun w => absurd (cm.mpr q) w, fun _ => ⟨⟨by decide, by decide⟩, rfl, rfl⟩⟩
      · rw [xb_neg (show ¬ isWd (.inl l) (cw k) from fun w => q w.2)]
        refine Wp.vc 400 [] rfl ?_
        exact ⟨fun _ => ⟨⟨by decide, by decide⟩, rfl, rfl⟩, fun w => absurd (cm.mp (Decidable.of_not_not w)) q⟩
    · rw [xb_neg (show ¬ isWd (.inl l) (cw k) from fun w => e2 w.1)]
      have ne : ¬ xfl h (ks K) 75 = 2 := by
        rw [f75]
        intro w
        unfold mk_ at w
        rcases L.2.1 with k | k | k | k | k <;> rw [k] at w e2 <;> first | exact absurd w (by decide) | exact absurd rfl e2
      refine WpM.of rfl (Wp.vc 400 [] rfl ?_)
      exact ⟨isF tm rfl, fun _ => ⟨⟨by decide, by decide⟩, rfl, rfl⟩, fun w => absurd ne w⟩
  | inr f =>
    rw [xb_neg (show ¬ isWd (.inr f) (cw k) from fun w => w)]
    have f75 := Z.2.1.1
    refine WpM.of rfl (Wp.vc 400 [] rfl ?_)
    rw [f75]
    exact ⟨isF tm rfl, fun _ => ⟨⟨by decide, by decide⟩, rfl, rfl⟩, fun w => absurd (show ¬ (5 : Int) = 2 by decide) w⟩
theorem m_needs {d : Nat} {K : XX} {h : XH} {o : Re LTk} {k : Nat} (Z : MZ K h o) (hk : k < 41) (xk : xword (cw k)) : WpM (d + 6) 154 [.inr (.inr (ks K)), .inr (.inr (xcs h k))] h (XRet fun v h' => v = none ∧ MZ K h' (rb o (rMust (kt K) (kn K) (cw k))) ∧ FrM (ks K) h h') := by
  have tm := Z.tm
  refine WpM.of rfl (Wp.vc 400 [] rfl ?_)
  refine Wp.callE (j := 0) rfl (Nat.le_of_ble_eq_true rfl) ⟨true, tm⟩ (m_isWord (d := d) Z hk xk) ?_
  have at13 : ∀ h1 o1, MZ K h1 o1 → FrM (ks K) h h1 → (∀ l, o1 = .inl l → lk l ≠ 1) → rb o1 (fun l => .inl (ga (kt K) (kn K) l)) = rb o (rMust (kt K) (kn K) (cw k)) → Wp (d + 6) 154 13 [some (.inr (.inr (ks K))), some (.inr (.inr (xcs h k)))] [] h1 (XRet fun v h' => v = none ∧ MZ K h' (rb o (rMust (kt K) (kn K) (cw k))) ∧ FrM (ks K) h h') := by
    intro h1 o1 Z1 p1 hk1 e
    refine Wp.vc 400 [] rfl ?_
    refine Wp.callR (j := 0) rfl (Nat.le_of_ble_eq_true rfl) ⟨true, Z1.tm⟩ (m_goesOn (d := d + 4) Z1 hk1) (fun v h2 q => ?_)
    obtain ⟨rfl, Z2, p2⟩ := q
    refine Wp.vc 400 [] rfl ?_
    rw [e] at Z2
    exact ⟨trivial, _, rfl, rfl, Z2, p1.trans p2⟩
  by_cases w : isWd o (cw k)
  · rw [xb_pos w]
    cases o with
    | inr f => exact w.elim
    | inl l =>
      have e : rMust (kt K) (kn K) (cw k) l = .inl (ga (kt K) (kn K) l) := if_pos w
      have a := at13 h _ Z (FrM.refl h) (fun l' e => by cases e; rw [w.1]; decide) e.symm
      refine Wp.vc 400 [13] rfl ?_
      exact ⟨fun _ => a, fun c => absurd (show ¬ (1 : Int) = 0 by decide) c⟩
  · rw [xb_neg w]
    refine Wp.vc 400 [13] rfl ?_
    refine ⟨fun c => absurd rfl c, fun _ => ?_⟩
    refine Wp.callR (j := 0) rfl (Nat.le_of_ble_eq_true rfl) ⟨true, tm⟩ (m_flaw (d := d + 5) Z) (fun v h2 q => ?_)
    obtain ⟨rfl, Z2, p2⟩ := q
    refine at13 h2 _ Z2 p2 (fun l e => ?_) ?_
    · cases o <;> cases e
    · cases o with
      | inl l => exact (show rMust (kt K) (kn K) (cw k) l = .inr (1, la l) from if_neg w).symm
      | inr f => rfl
def rsnd {α : Type} (r : Re (α × LTk)) : Re LTk := rb r (fun q => .inl q.2)
/-- what a taking ends with: a value, if it went well -/
def MVal {α : Type} (K : XX) (h : XH) (r : Re (α × LTk)) (enc : α → XV) : XO → XH → Prop := XRet fun v h' => (∃ z, v = some z ∧ (∃ i : Int, z = .inl i) ∧ ∀ q, r = .inl q → z = enc q.1) ∧ MZ K h' (rsnd r) ∧ FrM (ks K) h h'
def MValJ {α : Type} (K : XX) (h : XH) (r : Re (α × LTk)) (enc : α → Int) : XO → XH → Prop := XRet fun v h' => (∃ z : Int, v = some (.inr (.inl z)) ∧ ∀ q, r = .inl q → z = enc q.1) ∧ MZ K h' (rsnd r) ∧ FrM (ks K) h h'
theorem m_readWhole {d : Nat} {K : XX} {h : XH} {o : Re LTk} {lo hi : Int} (Z : MZ K h o) : WpM (d + 2) 155 [.inr (.inr (ks K)), .inl lo, .inl hi] h (XRet fun v h' => (∃ z : Int, v = some (.inl z) ∧ ∀ q, rb o (rNum (kt K) (kn K) lo hi) = .inl q → z = q.1) ∧ MZ K h' (rsnd (rb o (rNum (kt K) (kn K) lo hi))) ∧ FrM (ks K) h h') := by
  have tm := Z.tm
  obtain ⟨r, hr⟩ : ∃ r, r = rb o (rNum (kt K) (kn K) lo hi) := ⟨_, rfl⟩
  rw [← hr]
  have at49 : ∀ h1 o1 (z : Int), MZ K h1 o1 → FrM (ks K) h h1 → (∀ l, o1 = .inl l → lk l ≠ 1) → rb o1 (fun l => .inl (ga (kt K) (kn K) l)) = rsnd r → (∀ q, r = .inl q → z = q.1) → Wp (d + 2) 155 49 [some (.inr (.inr (ks K))), some (.inl lo), some (.inl hi), none] [.inl z] h1 (XRet fun v h' => (∃ z : Int, v = some (.inl z) ∧ ∀ q, r = .inl q → z = q.1) ∧ MZ K h' (rsnd r) ∧ FrM (ks K) h h') := by
    intro h1 o1 z Z1 p1 hk1 e hz
    refine Wp.vc 400 [] rfl ?_
    refine Wp.callR (j := 0) rfl (Nat.le_of_ble_eq_true rfl) ⟨true, Z1.tm⟩ (m_goesOn (d := d) Z1 hk1) (fun v h2 q => ?_)
    obtain ⟨rfl, Z2, p2⟩ := q
    refine Wp.vc 400 [] rfl ?_
    rw [e] at Z2
    exact ⟨trivial, _, rfl, ⟨z, rfl, hz⟩, Z2, p1.trans p2⟩
  have over : ∀ h1 f, MZ K h1 (.inr f) → FrM (ks K) h h1 → r = .inr f → Wp (d + 2) 155 33 [some (.inr (.inr (ks K))), some (.inl lo), some (.inl hi), none] [] h1 (XRet fun v h' => (∃ z : Int, v = some (.inl z) ∧ ∀ q, r = .inl q → z = q.1) ∧ MZ K h' (rsnd r) ∧ FrM (ks K) h h') := by
    intro h1 f Z1 p1 e
    have f75 := Z1.2.1.1
    have a := at49 h1 (.inr f) lo Z1 p1 (fun l e => by cases e) (by rw [e]; rfl) (fun q w => by rw [e] at w; cases w)
    refine Wp.vc 400 [45, 49] rfl ?_
    rw [f75]
    exact ⟨isF Z1.tm rfl, fun w => absurd rfl w, fun _ => a⟩
  cases o with
  | inr f =>
    have f75 := Z.2.1.1
    refine WpM.of rfl (Wp.vc 400 [16, 33] rfl ?_)
    rw [f75]
    refine ⟨isF tm rfl, fun w => absurd w (by decide), fun _ => ?_⟩
    refine Wp.callR (j := 0) rfl (Nat.le_of_ble_eq_true rfl) ⟨true, tm⟩ (m_flaw (d := d + 1) Z) (fun v h2 q => ?_)
    obtain ⟨rfl, Z2, p2⟩ := q
    have a := over h2 f Z2 p2 hr
    refine Wp.vc 400 [33] rfl ?_
    exact a
  | inl l =>
    obtain ⟨f75, -, -, -, -, f77⟩ := Z.2.1
    have L := Z.2.2 l rfl
    have hr : r = rNum (kt K) (kn K) lo hi l := hr
    unfold rNum at hr
    by_cases e3 : lk l = 3
    · rw [if_neg (fun w => w e3)] at hr
      have f75 : xfl h (ks K) 75 = 3 := by rw [f75, e3]; rfl
      have f77 := f77 e3
      refine WpM.of rfl (Wp.vc 400 [16, 33] rfl ?_)
      rw [f75]
      refine ⟨isF tm rfl, fun _ => ?_, fun w => absurd rfl w⟩
      refine Wp.vc 400 [33] rfl ?_
      rw [f77]
      refine ⟨isF tm rfl, ?_⟩
      refine Wp.callE (j := 0) rfl (Nat.le_of_ble_eq_true rfl) trivial (m_in (lv l) lo hi) ?_
      by_cases b : lo ≤ lv l ∧ lv l ≤ hi
      · rw [if_pos b] at hr ⊢
        have a := at49 h (.inl l) (lv l) Z (FrM.refl h) (fun l' e => by cases e; rw [e3]; decide) (by rw [hr]; rfl) (fun q w => by rw [hr] at w; cases w; rfl)
        refine Wp.vc 400 [33] rfl ?_
        refine ⟨fun _ => ?_, fun w => absurd (show ¬ (1 : Int) = 0 by decide) w⟩
        refine Wp.vc 400 [45, 49] rfl ?_
        rw [f75]
        refine ⟨isF tm rfl, fun _ => ?_, fun w => absurd (show ¬ (3 : Int) = 5 by decide) w⟩
        refine Wp.vc 400 [49] rfl ?_
        rw [f77]
        exact ⟨isF tm rfl, a⟩
      · rw [if_neg b] at hr ⊢
        refine Wp.vc 400 [33] rfl ?_
        refine ⟨fun w => absurd rfl w, fun _ => ?_⟩
        refine Wp.callR (j := 0) rfl (Nat.le_of_ble_eq_true rfl) ⟨true, tm⟩ (m_flaw (d := d + 1) Z) (fun v h2 q => ?_)
        obtain ⟨rfl, Z2, p2⟩ := q
        exact over h2 _ Z2 p2 hr
    · rw [if_pos e3] at hr
      have ne : ¬ xfl h (ks K) 75 = 3 := by
        rw [f75]
        intro w
        unfold mk_ at w
        rcases L.2.1 with k | k | k | k | k <;> rw [k] at w e3 <;> first | exact absurd w (by decide) | exact absurd rfl e3
      refine WpM.of rfl (Wp.vc 400 [16, 33] rfl ?_)
      refine ⟨isF tm rfl, fun w => absurd w ne, fun _ => ?_⟩
      refine Wp.callR (j := 0) rfl (Nat.le_of_ble_eq_true rfl) ⟨true, tm⟩ (m_flaw (d := d + 1) Z) (fun v h2 q => ?_)
      obtain ⟨rfl, Z2, p2⟩ := q
      have a := over h2 _ Z2 p2 hr
      refine Wp.vc 400 [33] rfl ?_
      exact a
theorem rsnd_must {tp : List Int} {n lo hi : Int} {w : List Int} (o : Re LTk) : rb (rb o (rMust tp n w)) (rNum tp n lo hi) = rb o (rAft tp n w lo hi) := by cases o <;> rfl
theorem m_readPart {d : Nat} {K : XX} {h : XH} {o : Re LTk} {lo hi : Int} {k : Nat} (Z : MZ K h o) (hk : k < 41) (xk : xword (cw k)) : WpM (d + 7) 153 [.inr (.inr (ks K)), .inr (.inr (xcs h k)), .inl lo, .inl hi] h (XRet fun v h' => (∃ z : Int, v = some (.inl z) ∧ ∀ q, rb o (rAft (kt K) (kn K) (cw k) lo hi) = .inl q → z = q.1) ∧ MZ K h' (rsnd (rb o (rAft (kt K) (kn K) (cw k) lo hi))) ∧ FrM (ks K) h h') := by
  have tm := Z.tm
  rw [← rsnd_must]
  refine WpM.of rfl (Wp.vc 400 [] rfl ?_)
  refine Wp.callR (j := 0) rfl (Nat.le_of_ble_eq_true rfl) ⟨true, tm⟩ (m_needs (d := d) Z hk xk) (fun v h2 q => ?_)
  obtain ⟨rfl, Z2, p2⟩ := q
  refine Wp.vc 400 [] rfl ?_
  refine Wp.callR (j := 0) rfl (Nat.le_of_ble_eq_true rfl) ⟨true, Z2.tm⟩ (m_readWhole (d := d + 4) (lo := lo) (hi := hi) Z2) (fun v h3 q => ?_)
  obtain ⟨⟨z, rfl, hz⟩, Z3, p3⟩ := q
  refine Wp.vc 400 [] rfl ?_
  exact ⟨trivial, _, rfl, ⟨z, rfl, hz⟩, Z3, p2.trans p3⟩
theorem m_readWord {d : Nat} {K : XX} {h : XH} {o : Re LTk} (Z : MZ K h o) : WpM (d + 2) 161 [.inr (.inr (ks K))] h (XRet fun v h' => (∃ z : Int, v = some (.inr (.inl z)) ∧ ∀ q, rb o (rWord (kt K) (kn K)) = .inl q → z = xpack q.1) ∧ MZ K h' (rsnd (rb o (rWord (kt K) (kn K)))) ∧ FrM (ks K) h h') := by
  have tm := Z.tm
  obtain ⟨r, hr⟩ : ∃ r, r = rb o (rWord (kt K) (kn K)) := ⟨_, rfl⟩
  rw [← hr]
  have at13 : ∀ h1 o1, MZ K h1 o1 → FrM (ks K) h h1 → (∀ l, o1 = .inl l → lk l ≠ 1) → rb o1 (fun l => .inl (ga (kt K) (kn K) l)) = rsnd r → (∀ q, r = .inl q → xfl h1 (ks K) 80 = xpack q.1) → Wp (d + 2) 161 13 [some (.inr (.inr (ks K))), none, none] [] h1 (XRet fun v h' => (∃ z : Int, v = some (.inr (.inl z)) ∧ ∀ q, r = .inl q → z = xpack q.1) ∧ MZ K h' (rsnd r) ∧ FrM (ks K) h h') := by
    intro h1 o1 Z1 p1 hk1 e hz
    have tm1 := Z1.tm
    refine Wp.vc 400 [] rfl ?_
    refine ⟨isF tm1 rfl, ?_⟩
    refine Wp.callR (j := 0) rfl (Nat.le_of_ble_eq_true rfl) ⟨true, tm1⟩ (m_goesOn (d := d) Z1 hk1) (fun v h2 q => ?_)
    obtain ⟨rfl, Z2, p2⟩ := q
    refine Wp.vc 400 [] rfl ?_
    rw [e] at Z2
    exact ⟨trivial, _, rfl, ⟨_, rfl, hz⟩, Z2, p1.trans p2⟩
  have fl : rb o (fun l => (.inr (1, la l) : Re LTk)) = rsnd r → (∀ q, r ≠ .inl q) → Wp (d + 2) 161 8 [some (.inr (.inr (ks K))), none, none] [] h (XRet fun v h' => (∃ z : Int, v = some (.inr (.inl z)) ∧ ∀ q, r = .inl q → z = xpack q.1) ∧ MZ K h' (rsnd r) ∧ FrM (ks K) h h') := by
    intro e no
    refine Wp.vc 400 [13] rfl ?_
    refine Wp.callR (j := 0) rfl (Nat.le_of_ble_eq_true rfl) ⟨true, tm⟩ (m_flaw (d := d + 1) Z) (fun v h2 q => ?_)
    obtain ⟨rfl, Z2, p2⟩ := q
    refine at13 h2 _ Z2 p2 (fun l e => by cases o <;> cases e) ?_ (fun q w => absurd w (no q))
    rw [← e]
    cases o <;> rfl
  cases o with
  | inr f =>
    have f75 := Z.2.1.1
    have hr : r = .inr f := hr
    have a := fl (by rw [hr]; rfl) (fun q w => by rw [hr] at w; cases w)
    refine WpM.of rfl (Wp.vc 400 [8, 13] rfl ?_)
    rw [f75]
    exact ⟨isF tm rfl, fun w => absurd w (by decide), fun _ => a⟩
  | inl l =>
    obtain ⟨f75, -, -, -, f80, -⟩ := Z.2.1
    have L := Z.2.2 l rfl
    have hr : r = rWord (kt K) (kn K) l := hr
    unfold rWord at hr
    by_cases e2 : lk l = 2
    · rw [if_pos e2] at hr
      have f75 : xfl h (ks K) 75 = 2 := by rw [f75, e2]; rfl
      have a := at13 h _ Z (FrM.refl h) (fun l' e => by cases e; rw [e2]; decide) (by rw [hr]; rfl) (fun q w => by rw [hr] at w; cases w; exact f80 e2)
      refine WpM.of rfl (Wp.vc 400 [8, 13] rfl ?_)
      rw [f75]
      exact ⟨isF tm rfl, fun _ => a, fun w => absurd rfl w⟩
    · rw [if_neg e2] at hr
      have ne : ¬ xfl h (ks K) 75 = 2 := by
        rw [f75]
        intro w
        unfold mk_ at w
        rcases L.2.1 with k | k | k | k | k <;> rw [k] at w e2 <;> first | exact absurd w (by decide) | exact absurd rfl e2
      have a := fl (by rw [hr]; rfl) (fun q w => by rw [hr] at w; cases w)
      refine WpM.of rfl (Wp.vc 400 [8, 13] rfl ?_)
      exact ⟨isF tm rfl, fun w => absurd w ne, fun _ => a⟩
