/-! WALKS, 14: open -/
set_option maxRecDepth 100000
set_option maxHeartbeats 4000000
def sNo (S : XSt) (k : Int) : Int × XSt := (-1, sSet S k (-1))
def sOk (S : XSt) (v : Int) : Int × XSt := (v, sSet S 0 (-1))
def opOpen (S : XSt) (i mm : Int) : Int × XSt := match sT S with
  | none => sNo S 1
  | some T => if 0 ≤ i ∧ i < tnh T then (if 0 ≤ mm ∧ mm ≤ 1439 then sOk S (if vOpen T (sV S) i mm then 1 else 0) else sNo S 2) else sNo S 1
theorem opOpen_no {S : XSt} {i mm : Int} (h : ¬ isHou S i) : opOpen S i mm = sNo S 1 := by
  unfold opOpen
  cases e : sT S with
  | none => rfl
  | some T => exact if_neg (fun w => h ⟨T, e, w⟩)
theorem opOpen_yes {S : XSt} {i mm : Int} {T : XTw} (e : sT S = some T) (h : 0 ≤ i ∧ i < tnh T) : opOpen S i mm = if 0 ≤ mm ∧ mm ≤ 1439 then sOk S (if vOpen T (sV S) i mm then 1 else 0) else sNo S 2 := by
  unfold opOpen
  rw [e]
  exact if_pos h
theorem x_opOpen {d : Nat} {h : XH} {B s n i mm : Int} {S : XSt} (R : Rx h B s S) (O : SOK n S) : WpM (d + 3) 13 [.inr (.inr s), .inl i, .inl mm] h (XAns (fun h' S' => Rx h' B s S') (XW s) (XA s) (some (.inl (opOpen S i mm).1)) (opOpen S i mm).2 h) := by
  have ts := R.2.1.2.1
  refine WpM.of rfl (Wp.vc 400 [] rfl ?_)
  refine Wp.callR (j := 0) rfl (Nat.le_of_ble_eq_true rfl) ⟨true, ts⟩ (x_anew R O) (fun v h1 q => ?_)
  obtain ⟨rfl, R1, p1, z1, z2⟩ := q
  have ts1 := R1.2.1.2.1
  have pp : XFr (XW s) (XA s) h h1 := p1.mono (fun z f _ w => w46_xw z f w) (fun _ _ w => w.elim)
  have no : ∀ k : Int, k ≠ 4 → ∀ d, WpM d 7 [.inr (.inr s), .inl k] h1 (XAns (fun h' S' => Rx h' B s S') (W46 s) xNoA (some (.inl (-1))) (sSet S k (-1)) h1) := fun k hk d => x_no (S := sSet S 0 (-1)) R1 O.set hk rfl
  clear R p1
  refine Wp.vc 400 [] rfl ?_
  refine Wp.callE (j := 0) rfl (Nat.le_of_ble_eq_true rfl) ⟨true, ts1⟩ (x_isHouse R1 O.set) ?_
  refine Wp.vc 400 [] rfl ?_
  refine Wp.callE (j := 0) rfl (Nat.le_of_ble_eq_true rfl) ⟨true, ts1⟩ (x_minuteWhy R1 _) ?_
  have bad : ∀ k : Int, k ≠ 4 → k ≠ 0 → opOpen S i mm = sNo S k → Wp (d + 3) 13 14 [some (.inr (.inr s)), some (.inl i), some (.inl mm), none] [.inl k] h1 (XAns (fun h' S' => Rx h' B s S') (XW s) (XA s) (some (.inl (opOpen S i mm).1)) (opOpen S i mm).2 h) := by
    intro k k4 k0 e
    rw [e]
    refine Wp.vc 400 [] rfl ?_
    refine ⟨fun w => absurd w k0, fun _ => ?_⟩
    refine Wp.callR (j := 0) rfl (Nat.le_of_ble_eq_true rfl) ⟨true, ts1⟩ (no k k4 _) (fun v h2 q => ?_)
    obtain ⟨rfl, R2, p2, z3, z4⟩ := q
    refine Wp.vc 400 [] rfl ?_
    exact ⟨trivial, XAns.mk R2 (pp.trans p2 (fun z f _ w => w46_xw z f w) (fun _ _ w => w.elim)) (z3.trans z1) (z4.trans z2)⟩
  by_cases hp : isHou S i
  · obtain ⟨T, e, i0⟩ := hp
    rw [if_pos (show isHou (sSet S 0 (-1)) i from ⟨T, e, i0⟩)]
    have eo := opOpen_yes (mm := mm) e i0
    by_cases c : 0 ≤ mm ∧ mm ≤ 1439
    · rw [if_pos c]
      rw [if_pos c] at eo
      obtain ⟨RT, hv, ne, TX, SN⟩ := R1.rooms O.set e
      obtain ⟨TO, VO, -⟩ := O.1 T e
      rw [eo]
      refine Wp.vc 400 [] rfl ?_
      refine ⟨fun _ => ⟨isF ts1 rfl, ?_⟩, fun w => absurd rfl w⟩
      rw [R1.2.1.2.2.2.2.1.1]
      refine Wp.callE (j := 0) rfl (Nat.le_of_ble_eq_true rfl) ⟨true, RT.1.2.1⟩ (x_RisOpen RT.1 SN TX TO VO i0 c.1) ?_
      have done : XAns (fun h' S' => Rx h' B s S') (XW s) (XA s) (some (.inl (sOk S (if vOpen T (sV S) i mm then 1 else 0)).1)) (sOk S (if vOpen T (sV S) i mm then 1 else 0)).2 h (.inl (some (.inl (if vOpen T (sV S) i mm then 1 else 0)))) h1 := XAns.mk R1 pp z1 z2
      show Wp _ _ _ _ (xpush (some (.inl (if vOpen T (sV S) i mm then 1 else 0))) _) _ _
      refine Wp.vc 400 [] rfl ?_
      by_cases q : vOpen T (sV S) i mm
      · rw [if_pos q] at done ⊢
        exact ⟨fun w => absurd w (by decide), fun _ => ⟨trivial, done⟩⟩
      · rw [if_neg q] at done ⊢
        exact ⟨fun _ => ⟨trivial, done⟩, fun w => absurd rfl w⟩
    · rw [if_neg c]
      rw [if_neg c] at eo
      exact bad 2 (by decide) (by decide) eo
  · rw [if_neg (show ¬ isHou (sSet S 0 (-1)) i from hp)]
    exact bad 1 (by decide) (by decide) (opOpen_no hp)
theorem m_opOpen {d : Nat} {h : XH} {B m n i mm : Int} {S : XSt} (R : Rm h B m S) (O : SOK n S) : WpM (d + 3) 181 [.inr (.inr m), .inl i, .inl mm] h (XAns (fun h' S' => Rm h' B m S') (MW m) (MA m) (some (.inl (opOpen S i mm).1)) (opOpen S i mm).2 h) := by
  obtain ⟨R0, p0, tm⟩ := R.begin
  refine WpM.of rfl (Wp.vc 400 [] rfl ?_)
  refine ⟨isW tm rfl, ?_⟩
  obtain ⟨g, hg⟩ : ∃ g, g = xputf h m 66 0 := ⟨_, rfl⟩
  have z0 : xsz g = xsz h ∧ xsl g = xsl h := by rw [hg]; exact ⟨rfl, rfl⟩
  rw [← hg] at R0 p0 ⊢
  clear hg R
  have tm := R0.2.1.1
  refine Wp.callE (j := 0) rfl (Nat.le_of_ble_eq_true rfl) ⟨true, tm⟩ (m_isHouse R0) ?_
  by_cases hp : isHou S i
  · obtain ⟨T, e, i0⟩ := hp
    have eo := opOpen_yes (mm := mm) e i0
    rw [xb_pos ⟨T, e, i0⟩]
    refine Wp.vc 400 [] rfl ?_
    refine ⟨fun _ => ?_, fun w => absurd (show ¬ (1 : Int) = 0 by decide) w⟩
    refine Wp.callE (j := 0) rfl (Nat.le_of_ble_eq_true rfl) trivial (m_in mm 0 1439) ?_
    by_cases c : 0 ≤ mm ∧ mm ≤ 1439
    · rw [if_pos c] at eo ⊢
      rw [eo]
      refine Wp.vc 400 [] rfl ?_
      refine ⟨fun w => absurd w (by decide), fun _ => ?_⟩
      refine Wp.callE (j := 0) rfl (Nat.le_of_ble_eq_true rfl) ⟨true, tm⟩ (m_isOpenAt R0 O e i0 c.1) ?_
      have fin : ∀ v : Int, ∀ d, WpM d 174 [.inr (.inr m), .inl v] g (XAns (fun h' S' => Rm h' B m S') (W678 m) xNoA (some (.inl v)) (sSet S 0 (-1)) g) := fun v d => m_good R0
      by_cases q : vOpen T (sV S) i mm
      · rw [if_pos q]
        refine Wp.vc 400 [] rfl ?_
        refine ⟨fun w => absurd w (by decide), fun _ => ?_⟩
        refine Wp.callR (j := 0) rfl (Nat.le_of_ble_eq_true rfl) ⟨true, tm⟩ (fin 1 _) (fun v h2 q => ?_)
        obtain ⟨rfl, R2, p2, z3, z4⟩ := q
        refine Wp.vc 400 [] rfl ?_
        exact ⟨trivial, XAns.mk R2 (p0.trans p2 (fun z f _ w => w678_mw z f w) (fun _ _ w => w.elim)) (z3.trans z0.1) (z4.trans z0.2)⟩
      · rw [if_neg q]
        refine Wp.vc 400 [] rfl ?_
        refine ⟨fun _ => ?_, fun w => absurd rfl w⟩
        refine Wp.callR (j := 0) rfl (Nat.le_of_ble_eq_true rfl) ⟨true, tm⟩ (fin 0 _) (fun v h2 q => ?_)
        obtain ⟨rfl, R2, p2, z3, z4⟩ := q
        refine Wp.vc 400 [] rfl ?_
        exact ⟨trivial, XAns.mk R2 (p0.trans p2 (fun z f _ w => w678_mw z f w) (fun _ _ w => w.elim)) (z3.trans z0.1) (z4.trans z0.2)⟩
    · rw [if_neg c] at eo ⊢
      rw [eo]
      refine Wp.vc 400 [] rfl ?_
      refine ⟨fun _ => ?_, fun w => absurd rfl w⟩
      refine Wp.callR (j := 0) rfl (Nat.le_of_ble_eq_true rfl) ⟨true, tm⟩ (m_refused R0) (fun v h2 q => ?_)
      obtain ⟨rfl, R2, p2, z3, z4⟩ := q
      refine Wp.vc 400 [] rfl ?_
      exact ⟨trivial, XAns.mk R2 (p0.trans p2 (fun z f _ w => w678_mw z f w) (fun _ _ w => w.elim)) (z3.trans z0.1) (z4.trans z0.2)⟩
  · rw [xb_neg hp, opOpen_no hp]
    refine Wp.vc 400 [] rfl ?_
    refine ⟨fun w => absurd rfl w, fun _ => ?_⟩
    refine Wp.callR (j := 0) rfl (Nat.le_of_ble_eq_true rfl) ⟨true, tm⟩ (m_refused R0) (fun v h2 q => ?_)
    obtain ⟨rfl, R2, p2, z3, z4⟩ := q
    refine Wp.vc 400 [] rfl ?_
    exact ⟨trivial, XAns.mk R2 (p0.trans p2 (fun z f _ w => w678_mw z f w) (fun _ _ w => w.elim)) (z3.trans z0.1) (z4.trans z0.2)⟩
