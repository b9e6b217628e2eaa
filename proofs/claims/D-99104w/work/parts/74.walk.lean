/-! WALKS, 15: street -/
set_option maxRecDepth 100000
set_option maxHeartbeats 4000000
def opStreet (S : XSt) (i j : Int) : Int × XSt := match sT S with
  | none => sNo S 1
  | some T => if (0 ≤ i ∧ i < tnh T) ∧ (0 ≤ j ∧ j < tnh T) ∧ i ≠ j then sOk S (if tst T i j = 0 then -2 else tst T i j) else sNo S 1
theorem opStreet_no {S : XSt} {i j : Int} (h : ¬ (isHou S i ∧ isHou S j ∧ i ≠ j)) : opStreet S i j = sNo S 1 := by
  unfold opStreet
  cases e : sT S with
  | none => rfl
  | some T => exact if_neg (fun w => h ⟨⟨T, e, w.1⟩, ⟨T, e, w.2.1⟩, w.2.2⟩)
theorem opStreet_yes {S : XSt} {i j : Int} {T : XTw} (e : sT S = some T) (h : (0 ≤ i ∧ i < tnh T) ∧ (0 ≤ j ∧ j < tnh T) ∧ i ≠ j) : opStreet S i j = sOk S (if tst T i j = 0 then -2 else tst T i j) := by
  unfold opStreet
  rw [e]
  exact if_pos h
theorem x_opStreet {d : Nat} {h : XH} {B s n i j : Int} {S : XSt} (R : Rx h B s S) (O : SOK n S) : WpM (d + 2) 15 [.inr (.inr s), .inl i, .inl j] h (XAns (fun h' S' => Rx h' B s S') (XW s) (XA s) (some (.inl (opStreet S i j).1)) (opStreet S i j).2 h) := by
  have ts := R.2.1.2.1
  refine WpM.of rfl (Wp.vc 400 [] rfl ?_)
  refine Wp.callR (j := 0) rfl (Nat.le_of_ble_eq_true rfl) ⟨true, ts⟩ (x_anew R O) (fun v h1 q => ?_)
  obtain ⟨rfl, R1, p1, z1, z2⟩ := q
  have ts1 := R1.2.1.2.1
  have pp : XFr (XW s) (XA s) h h1 := p1.mono (fun z f _ w => w46_xw z f w) (fun _ _ w => w.elim)
  have no : ∀ k : Int, k ≠ 4 → ∀ d, WpM d 7 [.inr (.inr s), .inl k] h1 (XAns (fun h' S' => Rx h' B s S') (W46 s) xNoA (some (.inl (-1))) (sSet S k (-1)) h1) := fun k hk d => x_no (S := sSet S 0 (-1)) R1 O.set hk rfl
  clear R p1
  have bad : opStreet S i j = sNo S 1 → Wp (d + 2) 15 25 [some (.inr (.inr s)), some (.inl i), some (.inl j)] [] h1 (XAns (fun h' S' => Rx h' B s S') (XW s) (XA s) (some (.inl (opStreet S i j).1)) (opStreet S i j).2 h) := by
    intro e
    rw [e]
    refine Wp.vc 400 [] rfl ?_
    refine Wp.callR (j := 0) rfl (Nat.le_of_ble_eq_true rfl) ⟨true, ts1⟩ (no 1 (by decide) _) (fun v h2 q => ?_)
    obtain ⟨rfl, R2, p2, z3, z4⟩ := q
    refine Wp.vc 400 [] rfl ?_
    exact ⟨trivial, XAns.mk R2 (pp.trans p2 (fun z f _ w => w46_xw z f w) (fun _ _ w => w.elim)) (z3.trans z1) (z4.trans z2)⟩
  refine Wp.vc 400 [] rfl ?_
  refine Wp.callE (j := 0) rfl (Nat.le_of_ble_eq_true rfl) ⟨true, ts1⟩ (x_isHouse R1 O.set) ?_
  by_cases hi : isHou S i
  · rw [xb_pos (show isHou (sSet S 0 (-1)) i from hi)]
    refine Wp.vc 400 [25] rfl ?_
    refine ⟨fun w => absurd w (by decide), fun _ => ?_⟩
    refine Wp.callE (j := 0) rfl (Nat.le_of_ble_eq_true rfl) ⟨true, ts1⟩ (x_isHouse R1 O.set) ?_
    by_cases hj : isHou S j
    · rw [xb_pos (show isHou (sSet S 0 (-1)) j from hj)]
      refine Wp.vc 400 [25] rfl ?_
      refine ⟨fun w => absurd w (by decide), fun _ => ⟨fun c => ⟨isF ts1 rfl, ?_⟩, fun c => bad (opStreet_no (fun w => c w.2.2))⟩⟩
      obtain ⟨T, e, i0⟩ := hi
      obtain ⟨T', e', j0⟩ := hj
      rw [e] at e'
      cases e'
      obtain ⟨RT, hv, ne, TX, SN⟩ := R1.rooms O.set e
      have hn := (O.1 T e).1.2.2.1
      have st := x_Tstreet (d := d + 1) TX (i := i) (j := j) ⟨i0.1, by omega⟩ ⟨j0.1, by omega⟩
      rw [opStreet_yes e ⟨i0, j0, c⟩]
      refine Wp.callE (j := 0) rfl (Nat.le_of_ble_eq_true rfl) ⟨true, TX.1.2.2⟩ st ?_
      by_cases q : tst T i j = 0
      · rw [if_pos q]
        refine Wp.vc 400 [] rfl ?_
        exact ⟨fun w => absurd q w, fun _ => ⟨trivial, XAns.mk R1 pp z1 z2⟩⟩
      · rw [if_neg q]
        refine Wp.vc 400 [] rfl ?_
        refine ⟨fun _ => ⟨isF ts1 rfl, ?_⟩, fun w => absurd q w⟩
        refine Wp.callE (j := 0) rfl (Nat.le_of_ble_eq_true rfl) ⟨true, TX.1.2.2⟩ st ?_
        refine Wp.vc 400 [] rfl ?_
        exact ⟨trivial, XAns.mk R1 pp z1 z2⟩
    · rw [xb_neg (show ¬ isHou (sSet S 0 (-1)) j from hj)]
      refine Wp.vc 400 [25] rfl ?_
      exact ⟨fun _ => bad (opStreet_no (fun w => hj w.2.1)), fun w => absurd rfl w⟩
  · rw [xb_neg (show ¬ isHou (sSet S 0 (-1)) i from hi)]
    refine Wp.vc 400 [25] rfl ?_
    exact ⟨fun _ => bad (opStreet_no (fun w => hi w.1)), fun w => absurd rfl w⟩
theorem m_opStreet {d : Nat} {h : XH} {B m n i j : Int} {S : XSt} (R : Rm h B m S) (O : SOK n S) : WpM (d + 2) 183 [.inr (.inr m), .inl i, .inl j] h (XAns (fun h' S' => Rm h' B m S') (MW m) (MA m) (some (.inl (opStreet S i j).1)) (opStreet S i j).2 h) := by
  obtain ⟨R0, p0, tm⟩ := R.begin
  refine WpM.of rfl (Wp.vc 400 [] rfl ?_)
  refine ⟨isW tm rfl, ?_⟩
  obtain ⟨g, hg⟩ : ∃ g, g = xputf h m 66 0 := ⟨_, rfl⟩
  have z0 : xsz g = xsz h ∧ xsl g = xsl h := by rw [hg]; exact ⟨rfl, rfl⟩
  rw [← hg] at R0 p0 ⊢
  clear hg R
  have tm := R0.2.1.1
  have bad : opStreet S i j = sNo S 1 → Wp (d + 2) 183 26 [some (.inr (.inr m)), some (.inl i), some (.inl j)] [] g (XAns (fun h' S' => Rm h' B m S') (MW m) (MA m) (some (.inl (opStreet S i j).1)) (opStreet S i j).2 h) := by
    intro e
    rw [e]
    refine Wp.vc 400 [] rfl ?_
    refine Wp.callR (j := 0) rfl (Nat.le_of_ble_eq_true rfl) ⟨true, tm⟩ (m_refused R0) (fun v h2 q => ?_)
    obtain ⟨rfl, R2, p2, z3, z4⟩ := q
    refine Wp.vc 400 [] rfl ?_
    exact ⟨trivial, XAns.mk R2 (p0.trans p2 (fun z f _ w => w678_mw z f w) (fun _ _ w => w.elim)) (z3.trans z0.1) (z4.trans z0.2)⟩
  have good : ∀ v : Int, opStreet S i j = sOk S v → Wp (d + 2) 183 69 [some (.inr (.inr m)), some (.inl i), some (.inl j)] [.inl v, .inr (.inr m)] g (XAns (fun h' S' => Rm h' B m S') (MW m) (MA m) (some (.inl (opStreet S i j).1)) (opStreet S i j).2 h) := by
    intro v e
    rw [e]
    refine Wp.callR (j := 0) rfl (Nat.le_of_ble_eq_true rfl) ⟨true, tm⟩ (m_good R0) (fun v h2 q => ?_)
    obtain ⟨rfl, R2, p2, z3, z4⟩ := q
    refine Wp.vc 400 [] rfl ?_
    exact ⟨trivial, XAns.mk R2 (p0.trans p2 (fun z f _ w => w678_mw z f w) (fun _ _ w => w.elim)) (z3.trans z0.1) (z4.trans z0.2)⟩
  refine Wp.callE (j := 0) rfl (Nat.le_of_ble_eq_true rfl) ⟨true, tm⟩ (m_isHouse R0) ?_
  by_cases hi : isHou S i
  · rw [xb_pos hi]
    refine Wp.vc 400 [26] rfl ?_
    refine ⟨fun w => absurd w (by decide), fun _ => ?_⟩
    refine Wp.callE (j := 0) rfl (Nat.le_of_ble_eq_true rfl) ⟨true, tm⟩ (m_isHouse R0) ?_
    by_cases hj : isHou S j
    · rw [xb_pos hj]
      obtain ⟨T, e, i0⟩ := hi
      obtain ⟨T', e', j0⟩ := hj
      rw [e] at e'
      cases e'
      obtain ⟨ne, TX, -⟩ := R0.hasT e
      have hn := (O.1 T e).1.2.2.1
      have c0 := TX.1.2.2
      have c8 := TX.2.1.2.1.2.2
      have v := TX.2.2.2.2.2.2.2 i j i0.1 (by omega) j0.1 (by omega)
      have yes := opStreet_yes e (i := i) (j := j)
      clear TX R0 O p0
      refine Wp.vc 400 [26, 69] rfl ?_
      rw [v]
      refine ⟨fun w => absurd w (by decide), fun _ => ⟨fun c => ?_, fun c => bad (opStreet_no (fun w => c w.2.2))⟩⟩
      have gi : xIsA g (xfl g (xfl g m 69) 150) 0 (7 * i + j) := isA c8 (by omega) (by omega)
      refine ⟨isF tm rfl, isF c0 rfl, ⟨by omega, by omega⟩, ⟨by omega, by omega⟩, gi, fun q => ⟨isF tm rfl, isF c0 rfl, ⟨by omega, by omega⟩, ⟨by omega, by omega⟩, gi, ?_⟩, fun q => ?_⟩
      · exact good _ (by rw [yes ⟨i0, j0, c⟩, if_neg q])
      · exact good _ (by rw [yes ⟨i0, j0, c⟩, if_pos (Decidable.of_not_not q)])
    · rw [xb_neg hj]
      refine Wp.vc 400 [26] rfl ?_
      exact ⟨fun _ => bad (opStreet_no (fun w => hj w.2.1)), fun w => absurd rfl w⟩
  · rw [xb_neg hi]
    refine Wp.vc 400 [26] rfl ?_
    exact ⟨fun _ => bad (opStreet_no (fun w => hi w.1)), fun w => absurd rfl w⟩
