/-! WALKS, 85: the model's reader: houses told -/
set_option maxRecDepth 100000
set_option maxHeartbeats 4000000
/-- what is found of a packed word: the first place -/
def FndI (N : List (List Int × Int × Int)) (z k : Int) : Prop := (k = -1 ∧ ∀ (j : Nat) q, N[j]? = some q → xpack q.1 ≠ z) ∨ (0 ≤ k ∧ (∃ q, N[k.toNat]? = some q ∧ xpack q.1 = z) ∧ ∀ (j : Nat) q, (j : Int) < k → N[j]? = some q → xpack q.1 ≠ z)
theorem m_find {d : Nat} {z0 t z e : Int} {h : XH} {P : PT} (Y : MTy z0 h t) (F : MTf h t P e) (hl : (pN P).length ≤ 11) : WpM d 292 [.inr (.inr t), .inr (.inl z)] h (XRet fun v h' => h' = h ∧ ∃ k : Int, v = some (.inl k) ∧ FndI (pN P) z k) := by
  obtain ⟨-, y2, y3, -, -, -, -, -, -, -, y15, -⟩ := Y
  have f142 := F.2.1.1
  have fn := F.2.2.2.2.2.2.2
  have f157 : xfl h t 157 = t + 15 := y3 157 (by decide) (by decide)
  clear F
  have key : ∀ (k : Int) (g : XH), k ≤ ((pN P).length : Int) → (0 ≤ k ∧ g = h ∧ ∀ (j : Nat) q, (j : Int) < k → (pN P)[j]? = some q → xpack q.1 ≠ z) → Wp d 292 2 [some (.inr (.inr t)), some (.inr (.inl z)), none, some (.inl k)] [] g (XRet fun v h' => h' = h ∧ ∃ k : Int, v = some (.inl k) ∧ FndI (pN P) z k) := by
    refine loopUp (G := fun k g => Wp d 292 2 [some (.inr (.inr t)), some (.inr (.inl z)), none, some (.inl k)] [] g (XRet fun v h' => h' = h ∧ ∃ k : Int, v = some (.inl k) ∧ FndI (pN P) z k)) ((pN P).length : Int) ?_ ?_
    · rintro k g ⟨k0, rfl, no⟩ hk ih
      have lt : k.toNat < (pN P).length := by omega
      have eq := List.getElem?_eq_getElem lt
      have v := (fn k.toNat _ eq).1
      rw [Int.toNat_of_nonneg k0] at v
      generalize (pN P)[k.toNat] = q at *
      have cm : xcmp (xpack q.1) z = 0 ↔ xpack q.1 = z := by
        unfold xcmp
        constructor
        · intro w
          split at w
          · cases w
          · split at w
            · assumption
            · cases w
        · intro w
          rw [if_neg (by omega), if_pos w]
      refine Wp.vc 400 [2] rfl ?_
      rw [f142, f157, v]
      refine ⟨isF y2 rfl, fun w => absurd w (by omega), fun _ => ⟨isF y2 rfl, isA y15 k0 (by omega), fun w => ⟨⟨by omega, by omega⟩, ih g ⟨by omega, rfl, fun j q' hj hq => ?_⟩⟩, fun w => ⟨trivial, _, rfl, rfl, k, rfl, Or.inr ⟨k0, ⟨q, eq, cm.mp (Decidable.of_not_not w)⟩, no⟩⟩⟩⟩
      by_cases e : (j : Int) = k
      · have : j = k.toNat := by omega
        rw [this, eq] at hq
        cases hq
        exact fun w2 => w (cm.mpr w2)
      · exact no j q' (by omega) hq
    · rintro g ⟨k0, rfl, no⟩
      refine Wp.vc 400 [10] rfl ?_
      rw [f142]
      exact ⟨isF y2 rfl, fun _ => ⟨trivial, _, rfl, rfl, -1, rfl, Or.inl ⟨rfl, fun j q hq => no j q (by have := (List.getElem?_eq_some_iff.mp hq).1; omega) hq⟩⟩, fun w => absurd (Int.le_refl _) w⟩
  refine WpM.of rfl (Wp.vc 400 [2] rfl ?_)
  exact key 0 h (by omega) ⟨Int.le_refl _, rfl, fun j q hj => by omega⟩
theorem NI.xw {P : PT} (N : NI P) {q : List Int × Int × Int} (h : q ∈ pN P) : xword q.1 := by
  rcases N.2.2.2.1 q h with ⟨-, i, -, e⟩ | ⟨-, i, -, e⟩
  · exact (N.2.1 i _ e).1
  · exact (N.2.2.1 i _ e).1
theorem FndI.of {P : PT} {w : List Int} {k : Int} (N : NI P) (xw : xword w) (F : FndI (pN P) (xpack w) k) : (k = -1 ∧ pFind P w = none) ∨ (0 ≤ k ∧ ∃ q, (pN P)[k.toNat]? = some q ∧ pFind P w = some q) := by
  rcases F with ⟨k1, no⟩ | ⟨k0, ⟨q, hq, e⟩, no⟩
  · refine Or.inl ⟨k1, List.find?_eq_none.mpr fun q hq => ?_⟩
    obtain ⟨j, hj⟩ := List.getElem?_of_mem hq
    have := no j q hj
    have : q.1 ≠ w := fun e => this (by rw [e])
    simpa using this
  · refine Or.inr ⟨k0, q, hq, ?_⟩
    obtain ⟨lt, eq⟩ := List.getElem?_eq_some_iff.mp hq
    have xq := N.xw (List.mem_of_getElem? hq)
    refine List.find?_eq_some_iff_getElem.mpr ⟨decide_eq_true ((xpack_inj xq xw).mp e), k.toNat, lt, eq, fun j hj => ?_⟩
    have h1 := no j _ (by omega) (List.getElem?_eq_getElem (Nat.lt_trans hj lt))
    have : (pN P)[j].1 ≠ w := fun e => h1 (by rw [e])
    simpa using this
/-- what holds of the model's town while it is read -/
def MI (P : PT) (e : Int) : Prop := PI P e ∧ ((pN P).length : Int) = tnh (pT P) + tpm (pT P)
theorem MI.len {P : PT} {e : Int} (I : MI P e) : (pN P).length ≤ 11 := by
  have a := I.1.2.2.2.1
  have b := I.1.2.2.2.2.1
  have := I.2
  omega
theorem m_lineBegins {d : Nat} {K : XX} {h : XH} {o : Re LTk} {P : PT} {e many most : Int} {can : Prop} [Decidable can] (Z : MZ K h o) (R : MRt K h P e) (hc : can ↔ many ≠ most) (hk : ∀ l, o = .inl l → lk l ≠ 1) : WpM (d + 2) 158 [.inr (.inr (ks K)), .inl many, .inl most] h (XRet fun v h' => v = none ∧ MZ K h' (rb o (rBegins (kt K) (kn K) can (pT P))) ∧ FrM (ks K) h h') := by
  have tm := Z.tm
  have at26 : ∀ h1 o1, MZ K h1 o1 → FrM (ks K) h h1 → (∀ l, o1 = .inl l → lk l ≠ 1) → rb o1 (fun l => .inl (ga (kt K) (kn K) l)) = rb o (rBegins (kt K) (kn K) can (pT P)) → Wp (d + 2) 158 26 [some (.inr (.inr (ks K))), some (.inl many), some (.inl most)] [] h1 (XRet fun v h' => v = none ∧ MZ K h' (rb o (rBegins (kt K) (kn K) can (pT P))) ∧ FrM (ks K) h h') := by
    intro h1 o1 Z1 p1 hk1 e
    refine Wp.vc 400 [] rfl ?_
    refine Wp.callR (j := 0) rfl (Nat.le_of_ble_eq_true rfl) ⟨true, Z1.tm⟩ (m_goesOn (d := d) Z1 hk1) (fun v h2 q => ?_)
    obtain ⟨rfl, Z2, p2⟩ := q
    refine Wp.vc 400 [] rfl ?_
    rw [e] at Z2
    exact ⟨trivial, _, rfl, rfl, Z2, p1.trans p2⟩
  have at10 : ∀ h1 o1, MZ K h1 o1 → FrM (ks K) h h1 → (∀ l, o1 = .inl l → lk l ≠ 1) → rb o1 (fun l => if tsc (pT P) 0 = 0 then .inr (6, la l) else .inl (ga (kt K) (kn K) l)) = rb o (rBegins (kt K) (kn K) can (pT P)) → Wp (d + 2) 158 10 [some (.inr (.inr (ks K))), some (.inl many), some (.inl most)] [] h1 (XRet fun v h' => v = none ∧ MZ K h' (rb o (rBegins (kt K) (kn K) can (pT P))) ∧ FrM (ks K) h h') := by
    intro h1 o1 Z1 p1 hk1 e
    have R1 := R.keep p1 Z
    have f133 := R1.2.1.1
    have tt := R1.1.2.1
    refine Wp.vc 400 [26] rfl ?_
    rw [f133]
    refine ⟨isF Z1.tm rfl, isF tt rfl, fun w => ?_, fun w => ?_⟩
    · refine at26 h1 o1 Z1 p1 hk1 ?_
      rw [← e]
      cases o1 with
      | inr f => rfl
      | inl l => exact (if_neg w).symm
    · have w := Decidable.of_not_not w
      refine Wp.callR (j := 0) rfl (Nat.le_of_ble_eq_true rfl) ⟨true, Z1.tm⟩ (m_flaw (d := d + 1) Z1) (fun v h2 q => ?_)
      obtain ⟨rfl, Z2, p2⟩ := q
      refine at26 h2 _ Z2 (p1.trans p2) (fun l e => by cases o1 <;> cases e) ?_
      rw [← e]
      cases o1 with
      | inr f => rfl
      | inl l => exact (if_pos w : (if tsc (pT P) 0 = 0 then (.inr (6, la l) : Re LTk) else _) = _).symm
  refine WpM.of rfl (Wp.vc 400 [10] rfl ?_)
  refine ⟨fun w => ?_, fun w => ?_⟩
  · refine at10 h o Z (FrM.refl h) hk ?_
    cases o with
    | inr f => rfl
    | inl l => exact (if_pos (hc.mpr w) : rBegins (kt K) (kn K) can (pT P) l = _).symm
  · have w := Decidable.of_not_not w
    refine Wp.callR (j := 0) rfl (Nat.le_of_ble_eq_true rfl) ⟨true, tm⟩ (m_flaw (d := d + 1) Z) (fun v h2 q => ?_)
    obtain ⟨rfl, Z2, p2⟩ := q
    refine at10 h2 _ Z2 p2 (fun l e => by cases o <;> cases e) ?_
    cases o with
    | inr f => rfl
    | inl l => exact (if_neg (fun c => hc.mp c w) : rBegins (kt K) (kn K) can (pT P) l = _).symm
theorem m_readFresh {d : Nat} {K : XX} {h : XH} {o : Re LTk} {P : PT} {e : Int} (Z : MZ K h o) (R : MRt K h P e) (I : MI P e) : WpM (d + 7) 159 [.inr (.inr (ks K))] h (XRet fun v h' => (∃ z : Int, v = some (.inr (.inl z)) ∧ ∀ q, rb o (rFresh (kt K) (kn K) P) = .inl q → z = xpack q.1) ∧ MZ K h' (rsnd (rb o (rFresh (kt K) (kn K) P))) ∧ FrM (ks K) h h') := by
  have tm := Z.tm
  obtain ⟨r, hr⟩ : ∃ r, r = rb o (rFresh (kt K) (kn K) P) := ⟨_, rfl⟩
  rw [← hr]
  have at32 : ∀ h1 o1, MZ K h1 o1 → FrM (ks K) h h1 → (∀ l, o1 = .inl l → lk l ≠ 1) → rb o1 (fun l => .inl (ga (kt K) (kn K) l)) = rsnd r → (∀ q, r = .inl q → xfl h1 (ks K) 80 = xpack q.1) → Wp (d + 7) 159 32 [some (.inr (.inr (ks K))), none, none] [] h1 (XRet fun v h' => (∃ z : Int, v = some (.inr (.inl z)) ∧ ∀ q, r = .inl q → z = xpack q.1) ∧ MZ K h' (rsnd r) ∧ FrM (ks K) h h') := by
    intro h1 o1 Z1 p1 hk1 e hz
    have tm1 := Z1.tm
    refine Wp.vc 400 [] rfl ?_
    refine ⟨isF tm1 rfl, ?_⟩
    refine Wp.callR (j := 0) rfl (Nat.le_of_ble_eq_true rfl) ⟨true, tm1⟩ (m_goesOn (d := d + 5) Z1 hk1) (fun v h2 q => ?_)
    obtain ⟨rfl, Z2, p2⟩ := q
    refine Wp.vc 400 [] rfl ?_
    rw [e] at Z2
    exact ⟨trivial, _, rfl, ⟨_, rfl, hz⟩, Z2, p1.trans p2⟩
  have over : ∀ h1 f, MZ K h1 (.inr f) → FrM (ks K) h h1 → r = .inr f → Wp (d + 7) 159 12 [some (.inr (.inr (ks K))), none, none] [] h1 (XRet fun v h' => (∃ z : Int, v = some (.inr (.inl z)) ∧ ∀ q, r = .inl q → z = xpack q.1) ∧ MZ K h' (rsnd r) ∧ FrM (ks K) h h') := by
    intro h1 f Z1 p1 e
    have R1 := R.keep p1 Z
    have tt := R1.1.2.1
    have a := at32 h1 (.inr f) Z1 p1 (fun l e => by cases e) (by rw [e]; rfl) (fun q w => by rw [e] at w; cases w)
    refine Wp.vc 400 [27, 32] rfl ?_
    refine ⟨isF Z1.tm rfl, isF Z1.tm rfl, ?_⟩
    refine Wp.callR (j := 0) rfl (Nat.le_of_ble_eq_true rfl) ⟨true, tt⟩ (m_find (d := d + 6) R1.1 R1.2 I.len) (fun v h2 q => ?_)
    obtain ⟨rfl, k, rfl, -⟩ := q
    refine Wp.vc 400 [32] rfl ?_
    refine ⟨fun _ => a, fun _ => ?_⟩
    refine Wp.callR (j := 0) rfl (Nat.le_of_ble_eq_true rfl) ⟨true, Z1.tm⟩ (m_flaw (d := d + 6) Z1) (fun v h3 q => ?_)
    obtain ⟨rfl, Z2, p2⟩ := q
    exact at32 h3 (.inr f) Z2 (p1.trans p2) (fun l e => by cases e) (by rw [e]; rfl) (fun q w => by rw [e] at w; cases w)
  refine WpM.of rfl (Wp.vc 400 [] rfl ?_)
  refine Wp.callE (j := 0) rfl (Nat.le_of_ble_eq_true rfl) ⟨true, tm⟩ (m_isName (d := d) Z) ?_
  by_cases nm : isNmo o
  · rw [xb_pos nm]
    cases o with
    | inr f => exact nm.elim
    | inl l =>
      have nm : isNm l := nm
      have hr : r = rFresh (kt K) (kn K) P l := hr
      unfold rFresh at hr
      rw [if_pos nm] at hr
      have f80 := Z.2.1.2.2.2.2.1 nm.1
      have L := Z.2.2 l rfl
      have tt := R.1.2.1
      have xw := (L.2.2.2.1 nm.1).1
      have fd := m_find (d := d + 6) (z := xpack (lw l)) R.1 R.2 I.len
      refine Wp.vc 400 [27, 32] rfl ?_
      rw [f80]
      refine ⟨fun _ => ⟨isF tm rfl, isF tm rfl, ?_⟩, fun c => absurd (show ¬ (1 : Int) = 0 by decide) c⟩
      refine Wp.callR (j := 0) rfl (Nat.le_of_ble_eq_true rfl) ⟨true, tt⟩ fd (fun v h2 q => ?_)
      obtain ⟨rfl, k, rfl, FI⟩ := q
      rcases FI.of I.1.1 xw with ⟨rfl, no⟩ | ⟨k0, q, hq, ys⟩
      · rw [if_pos no] at hr
        have a := at32 h2 _ Z (FrM.refl h2) (fun l' e => by cases e; rw [nm.1]; decide) (by rw [hr]; rfl) (fun q w => by rw [hr] at w; cases w; exact f80)
        refine Wp.vc 400 [32] rfl ?_
        exact ⟨fun _ => a, fun w => absurd rfl w⟩
      · rw [if_neg (by rw [ys]; exact fun w => by cases w)] at hr
        refine Wp.vc 400 [32] rfl ?_
        refine ⟨fun w => absurd w (by omega), fun _ => ?_⟩
        refine Wp.callR (j := 0) rfl (Nat.le_of_ble_eq_true rfl) ⟨true, tm⟩ (m_flaw (d := d + 6) Z) (fun v h3 q => ?_)
        obtain ⟨rfl, Z2, p2⟩ := q
        exact at32 h3 _ Z2 p2 (fun l e => by cases e) (by rw [hr]; rfl) (fun q w => by rw [hr] at w; cases w)
  · rw [xb_neg nm]
    refine Wp.vc 400 [12] rfl ?_
    refine ⟨fun w => absurd rfl w, fun _ => ?_⟩
    refine Wp.callR (j := 0) rfl (Nat.le_of_ble_eq_true rfl) ⟨true, tm⟩ (m_flaw (d := d + 6) Z) (fun v h2 q => ?_)
    obtain ⟨rfl, Z2, p2⟩ := q
    cases o with
    | inr f => exact over h2 f Z2 p2 hr
    | inl l =>
      have hr : r = rFresh (kt K) (kn K) P l := hr
      unfold rFresh at hr
      rw [if_neg (show ¬ isNm l from nm)] at hr
      exact over h2 _ Z2 p2 hr
theorem m_knownHouse {d : Nat} {K : XX} {h : XH} {o : Re LTk} {P : PT} {e : Int} (Z : MZ K h o) (R : MRt K h P e) (I : MI P e) : WpM (d + 7) 164 [.inr (.inr (ks K))] h (XRet fun v h' => (∃ z : Int, v = some (.inl z) ∧ ∀ q, rb o (rHere P) = .inl q → z = q.1) ∧ MZ K h' (rsnd (rb o (rHere P))) ∧ FrM (ks K) h h') := by
  have tm := Z.tm
  obtain ⟨r, hr⟩ : ∃ r, r = rb o (rHere P) := ⟨_, rfl⟩
  rw [← hr]
  have fin : ∀ h1 f, MZ K h1 (.inr f) → FrM (ks K) h h1 → r = .inr f → ∀ k, Wp (d + 7) 164 46 [some (.inr (.inr (ks K))), some (.inl k)] [] h1 (XRet fun v h' => (∃ z : Int, v = some (.inl z) ∧ ∀ q, r = .inl q → z = q.1) ∧ MZ K h' (rsnd r) ∧ FrM (ks K) h h') := by
    intro h1 f Z1 p1 e k
    have f75 := Z1.2.1.1
    refine Wp.vc 400 [58] rfl ?_
    rw [f75]
    exact ⟨isF Z1.tm rfl, fun w => absurd rfl w, fun _ => ⟨trivial, _, rfl, ⟨_, rfl, fun q w => by rw [e] at w; cases w⟩, by rw [e]; exact Z1, p1⟩⟩
  have fin0 : ∀ h1 o1, MZ K h1 o1 → FrM (ks K) h h1 → (∃ f, rb o1 (fun l => (.inr (2, la l) : Re LTk)) = .inr f ∧ r = .inr f) → ∀ k, Wp (d + 7) 164 41 [some (.inr (.inr (ks K))), some (.inl k)] [] h1 (XRet fun v h' => (∃ z : Int, v = some (.inl z) ∧ ∀ q, r = .inl q → z = q.1) ∧ MZ K h' (rsnd r) ∧ FrM (ks K) h h') := by
    intro h1 o1 Z1 p1 ⟨f, e1, e2⟩ k
    refine Wp.vc 400 [46] rfl ?_
    refine Wp.callR (j := 0) rfl (Nat.le_of_ble_eq_true rfl) ⟨true, Z1.tm⟩ (m_flaw (d := d + 6) Z1) (fun v h3 q => ?_)
    obtain ⟨rfl, Z2, p2⟩ := q
    rw [e1] at Z2
    exact fin h3 f Z2 (p1.trans p2) e2 k
  have over : ∀ h1 f, MZ K h1 (.inr f) → FrM (ks K) h h1 → r = .inr f → Wp (d + 7) 164 12 [some (.inr (.inr (ks K))), none] [] h1 (XRet fun v h' => (∃ z : Int, v = some (.inl z) ∧ ∀ q, r = .inl q → z = q.1) ∧ MZ K h' (rsnd r) ∧ FrM (ks K) h h') := by
    intro h1 f Z1 p1 e
    have R1 := R.keep p1 Z
    have tt := R1.1.2.1
    have l11 := I.len
    have y16 := R1.1.2.2.2.2.2.2.2.2.2.2.2.1
    have f158 := R1.1.2.2.1 158 (by decide) (by decide)
    refine Wp.vc 400 [29, 41, 46] rfl ?_
    refine ⟨isF Z1.tm rfl, isF Z1.tm rfl, ?_⟩
    refine Wp.callR (j := 0) rfl (Nat.le_of_ble_eq_true rfl) ⟨true, tt⟩ (m_find (d := d + 6) R1.1 R1.2 I.len) (fun v h2 q => ?_)
    obtain ⟨rfl, k, rfl, FI⟩ := q
    refine Wp.vc 400 [41, 46] rfl ?_
    refine ⟨fun _ => fin0 h2 _ Z1 p1 ⟨f, rfl, e⟩ _, fun w => ?_⟩
    rcases FI with ⟨rfl, -⟩ | ⟨k0, ⟨q, hq, -⟩, -⟩
    · exact absurd rfl w
    · have lt := (List.getElem?_eq_some_iff.mp hq).1
      rw [f158]
      exact ⟨isF Z1.tm rfl, isF tt rfl, isA y16 k0 (by omega), fun _ => fin h2 _ Z1 p1 e _, fun _ => fin0 h2 _ Z1 p1 ⟨f, rfl, e⟩ _⟩
  refine WpM.of rfl (Wp.vc 400 [] rfl ?_)
  refine Wp.callE (j := 0) rfl (Nat.le_of_ble_eq_true rfl) ⟨true, tm⟩ (m_isName (d := d) Z) ?_
  by_cases nm : isNmo o
  · rw [xb_pos nm]
    cases o with
    | inr f => exact nm.elim
    | inl l =>
      have nm : isNm l := nm
      have hr : r = rHere P l := hr
      unfold rHere at hr
      rw [if_pos nm] at hr
      have f80 := Z.2.1.2.2.2.2.1 nm.1
      have f75 : xfl h (ks K) 75 = 2 := by rw [Z.2.1.1, nm.1]; rfl
      have L := Z.2.2 l rfl
      have tt := R.1.2.1
      have l11 := I.len
      have y16 := R.1.2.2.2.2.2.2.2.2.2.2.2.1
      have y17 := R.1.2.2.2.2.2.2.2.2.2.2.2.2
      have f158 := R.1.2.2.1 158 (by decide) (by decide)
      have f159 := R.1.2.2.1 159 (by decide) (by decide)
      have xw := (L.2.2.2.1 nm.1).1
      have fd := m_find (d := d + 6) (z := xpack (lw l)) R.1 R.2 I.len
      refine Wp.vc 400 [29, 41, 46] rfl ?_
      rw [f80]
      refine ⟨fun _ => ⟨isF tm rfl, isF tm rfl, ?_⟩, fun c => absurd (show ¬ (1 : Int) = 0 by decide) c⟩
      refine Wp.callR (j := 0) rfl (Nat.le_of_ble_eq_true rfl) ⟨true, tt⟩ fd (fun v h2 q => ?_)
      obtain ⟨rfl, k, rfl, FI⟩ := q
      rcases FI.of I.1.1 xw with ⟨rfl, no⟩ | ⟨k0, q, hq, ys⟩
      · rw [no] at hr
        have a := fin0 h2 _ Z (FrM.refl h2) ⟨_, rfl, hr⟩ (-1)
        refine Wp.vc 400 [41, 46] rfl ?_
        exact ⟨fun _ => a, fun w => absurd rfl w⟩
      · have lt := (List.getElem?_eq_some_iff.mp hq).1
        have fn := R.2.2.2.2.2.2.2.2 k.toNat q hq
        rw [Int.toNat_of_nonneg k0] at fn
        obtain ⟨qw, qs, qi⟩ := q
        rw [ys] at hr
        refine Wp.vc 400 [41, 46] rfl ?_
        rw [f158]
        refine ⟨fun w => absurd w (by omega), fun _ => ⟨isF tm rfl, isF tt rfl, isA y16 k0 (by omega), ?_⟩⟩
        rw [show xar h2 (xfl h2 (ks K) 70 + (((158 : Nat) : Int) - 142)) k = qs from fn.2.1]
        by_cases s0 : qs = 0
        · subst s0
          have hr : r = .inl (qi, l) := hr
          refine ⟨fun _ => ?_, fun w => absurd rfl w⟩
          refine Wp.vc 400 [58] rfl ?_
          rw [f75]
          refine ⟨isF tm rfl, fun _ => ?_, fun w => absurd (show ¬ (2 : Int) = 5 by decide) w⟩
          refine Wp.vc 400 [] rfl ?_
          rw [f159]
          refine ⟨isF tm rfl, isF tt rfl, isA y17 k0 (by omega), trivial, _, rfl, ⟨_, rfl, fun q w => ?_⟩, by rw [hr]; exact Z, FrM.refl h2⟩
          rw [hr] at w
          cases w
          exact fn.2.2
        · have hr : r = .inr (2, la l) := by
            rw [hr]
            split
            · next w i e => cases e; exact absurd rfl s0
            · rfl
          exact ⟨fun w => absurd w s0, fun _ => fin0 h2 _ Z (FrM.refl h2) ⟨_, rfl, hr⟩ k⟩
  · rw [xb_neg nm]
    refine Wp.vc 400 [12] rfl ?_
    refine ⟨fun w => absurd rfl w, fun _ => ?_⟩
    refine Wp.callR (j := 0) rfl (Nat.le_of_ble_eq_true rfl) ⟨true, tm⟩ (m_flaw (d := d + 6) Z) (fun v h2 q => ?_)
    obtain ⟨rfl, Z2, p2⟩ := q
    cases o with
    | inr f => exact over h2 f Z2 p2 hr
    | inl l =>
      have hr : r = rHere P l := hr
      unfold rHere at hr
      rw [if_neg (show ¬ isNm l from nm)] at hr
      exact over h2 _ Z2 p2 hr
