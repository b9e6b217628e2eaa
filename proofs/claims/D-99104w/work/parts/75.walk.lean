/-! WALKS, 16: person -/
set_option maxRecDepth 100000
set_option maxHeartbeats 4000000
/-- a switch, by where it goes -/
theorem Wp.sw {d M pc t : Nat} {ls : XL} {st : XS} {h : XH} {Q : XO → XH → Prop} {cs : List (Int × Nat)} {dd : Nat} {a : Int} (hx : xst0 M pc ls (.inl a :: st) h = some (xsw cs dd a, ls, st, h)) (ht : xsw cs dd a = t) (k : Wp d M t ls st h Q) : Wp d M pc ls (.inl a :: st) h Q := Wp.s0 hx (by rw [ht]; exact k)
def opPerson (S : XSt) (p w : Int) : Int × XSt := match sT S with
  | none => sNo S 1
  | some T => if (0 ≤ p ∧ p < tpm T) ∧ (0 ≤ w ∧ w ≤ 2) then sOk S (if w = 0 then thv T 7 p else if w = 1 then sV S (8 + p) else sV S (12 + p)) else sNo S 1
theorem opPerson_no {S : XSt} {p w : Int} (h : ¬ (isPer S p ∧ (0 ≤ w ∧ w ≤ 2))) : opPerson S p w = sNo S 1 := by
  unfold opPerson
  cases e : sT S with
  | none => rfl
  | some T => exact if_neg (fun q => h ⟨⟨T, e, q.1⟩, q.2⟩)
theorem opPerson_yes {S : XSt} {p w : Int} {T : XTw} (e : sT S = some T) (h : (0 ≤ p ∧ p < tpm T) ∧ (0 ≤ w ∧ w ≤ 2)) : opPerson S p w = sOk S (if w = 0 then thv T 7 p else if w = 1 then sV S (8 + p) else sV S (12 + p)) := by
  unfold opPerson
  rw [e]
  exact if_pos h
theorem x_opPerson {d : Nat} {h : XH} {B s n p w : Int} {S : XSt} (R : Rx h B s S) (O : SOK n S) : WpM (d + 2) 16 [.inr (.inr s), .inl p, .inl w] h (XAns (fun h' S' => Rx h' B s S') (XW s) (XA s) (some (.inl (opPerson S p w).1)) (opPerson S p w).2 h) := by
  have ts := R.2.1.2.1
  refine WpM.of rfl (Wp.vc 400 [] rfl ?_)
  refine Wp.callR (j := 0) rfl (Nat.le_of_ble_eq_true rfl) ⟨true, ts⟩ (x_anew R O) (fun v h1 q => ?_)
  obtain ⟨rfl, R1, p1, z1, z2⟩ := q
  have ts1 := R1.2.1.2.1
  have pp : XFr (XW s) (XA s) h h1 := p1.mono (fun z f _ w => w46_xw z f w) (fun _ _ w => w.elim)
  have no : ∀ k : Int, k ≠ 4 → ∀ d, WpM d 7 [.inr (.inr s), .inl k] h1 (XAns (fun h' S' => Rx h' B s S') (W46 s) xNoA (some (.inl (-1))) (sSet S k (-1)) h1) := fun k hk d => x_no (S := sSet S 0 (-1)) R1 O.set hk rfl
  clear R p1
  refine Wp.vc 400 [] rfl ?_
  refine Wp.callE (j := 0) rfl (Nat.le_of_ble_eq_true rfl) ⟨true, ts1⟩ (x_isPerson R1 O.set) ?_
  by_cases hp : isPer S p
  · rw [xb_pos (show isPer (sSet S 0 (-1)) p from hp)]
    refine Wp.vc 400 [19] rfl ?_
    refine ⟨fun _ => ?_, fun c => absurd (show ¬ (1 : Int) = 0 by decide) c⟩
    by_cases hw : 0 ≤ w ∧ w ≤ 2
    · obtain ⟨T, e, p0⟩ := hp
      obtain ⟨RT, hv, ne, TX, SN⟩ := R1.rooms O.set e
      have hpm := (O.1 T e).1.2.2.2.1
      have PX := TX.2.2.2.2.1 p p0.1 p0.2
      have ct := TX.1.2.2
      have cp := TX.2.1.2.1.2.2
      have sq := SN.2.2.2 p p0.1 p0.2
      have f9 := R1.2.1.2.2.2.2.1.1
      rw [opPerson_yes e ⟨p0, hw⟩]
      have hc : w = 0 ∨ w = 1 ∨ w = 2 := by omega
      have tR := RT.1
      clear TX SN O no hv
      rcases hc with rfl | rfl | rfl
      · refine Wp.vc 400 [] rfl ?_
        rw [PX.2.1]
        exact ⟨isF ts1 rfl, isF ct rfl, isR cp (by decide) p0.1 (by omega), isF PX.1.2.2 rfl, trivial, XAns.mk R1 pp z1 z2⟩
      · refine Wp.vc 400 [] rfl ?_
        rw [f9, tR.2.2.2.2.2.2.1, sq.1]
        exact ⟨isF ts1 rfl, isF tR.2.1 rfl, isA tR.2.2.2.1 p0.1 (by omega), trivial, XAns.mk R1 pp z1 z2⟩
      · refine Wp.vc 400 [] rfl ?_
        rw [f9, tR.2.2.2.2.2.2.2, sq.2]
        exact ⟨isF ts1 rfl, isF tR.2.1 rfl, isA tR.2.2.2.2.1 p0.1 (by omega), trivial, XAns.mk R1 pp z1 z2⟩
    · rw [opPerson_no (fun q => hw q.2)]
      refine Wp.sw rfl (t := 77) ?_ ?_
      · simp only [xsw]
        rw [if_neg (by omega), if_neg (by omega), if_neg (by omega)]
      · refine Wp.vc 400 [] rfl ?_
        refine Wp.callR (j := 0) rfl (Nat.le_of_ble_eq_true rfl) ⟨true, ts1⟩ (no 1 (by decide) _) (fun v h2 q => ?_)
        obtain ⟨rfl, R2, p2, z3, z4⟩ := q
        refine Wp.vc 400 [] rfl ?_
        exact ⟨trivial, XAns.mk R2 (pp.trans p2 (fun z f _ w => w46_xw z f w) (fun _ _ w => w.elim)) (z3.trans z1) (z4.trans z2)⟩
  · rw [xb_neg (show ¬ isPer (sSet S 0 (-1)) p from hp), opPerson_no (fun q => hp q.1)]
    refine Wp.vc 400 [19] rfl ?_
    refine ⟨fun w => absurd rfl w, fun _ => ?_⟩
    refine Wp.callR (j := 0) rfl (Nat.le_of_ble_eq_true rfl) ⟨true, ts1⟩ (no 1 (by decide) _) (fun v h2 q => ?_)
    obtain ⟨rfl, R2, p2, z3, z4⟩ := q
    refine Wp.vc 400 [] rfl ?_
    exact ⟨trivial, XAns.mk R2 (pp.trans p2 (fun z f _ w => w46_xw z f w) (fun _ _ w => w.elim)) (z3.trans z1) (z4.trans z2)⟩
theorem m_opPerson {d : Nat} {h : XH} {B m n p w : Int} {S : XSt} (R : Rm h B m S) (O : SOK n S) : WpM (d + 2) 184 [.inr (.inr m), .inl p, .inl w] h (XAns (fun h' S' => Rm h' B m S') (MW m) (MA m) (some (.inl (opPerson S p w).1)) (opPerson S p w).2 h) := by
  obtain ⟨R0, p0, tm⟩ := R.begin
  refine WpM.of rfl (Wp.vc 400 [] rfl ?_)
  refine ⟨isW tm rfl, ?_⟩
  obtain ⟨g, hg⟩ : ∃ g, g = xputf h m 66 0 := ⟨_, rfl⟩
  have z0 : xsz g = xsz h ∧ xsl g = xsl h := by rw [hg]; exact ⟨rfl, rfl⟩
  rw [← hg] at R0 p0 ⊢
  clear hg R
  have tm := R0.2.1.1
  have bad : opPerson S p w = sNo S 1 → Wp (d + 2) 184 22 [some (.inr (.inr m)), some (.inl p), some (.inl w)] [] g (XAns (fun h' S' => Rm h' B m S') (MW m) (MA m) (some (.inl (opPerson S p w).1)) (opPerson S p w).2 h) := by
    intro e
    rw [e]
    refine Wp.vc 400 [] rfl ?_
    refine Wp.callR (j := 0) rfl (Nat.le_of_ble_eq_true rfl) ⟨true, tm⟩ (m_refused R0) (fun v h2 q => ?_)
    obtain ⟨rfl, R2, p2, z3, z4⟩ := q
    refine Wp.vc 400 [] rfl ?_
    exact ⟨trivial, XAns.mk R2 (p0.trans p2 (fun z f _ w => w678_mw z f w) (fun _ _ w => w.elim)) (z3.trans z0.1) (z4.trans z0.2)⟩
  have good : ∀ v : Int, opPerson S p w = sOk S v → Wp (d + 2) 184 71 [some (.inr (.inr m)), some (.inl p), some (.inl w)] [.inl v, .inr (.inr m)] g (XAns (fun h' S' => Rm h' B m S') (MW m) (MA m) (some (.inl (opPerson S p w).1)) (opPerson S p w).2 h) := by
    intro v e
    rw [e]
    refine Wp.callR (j := 0) rfl (Nat.le_of_ble_eq_true rfl) ⟨true, tm⟩ (m_good R0) (fun v h2 q => ?_)
    obtain ⟨rfl, R2, p2, z3, z4⟩ := q
    refine Wp.vc 400 [] rfl ?_
    exact ⟨trivial, XAns.mk R2 (p0.trans p2 (fun z f _ w => w678_mw z f w) (fun _ _ w => w.elim)) (z3.trans z0.1) (z4.trans z0.2)⟩
  refine Wp.callE (j := 0) rfl (Nat.le_of_ble_eq_true rfl) ⟨true, tm⟩ (m_isPerson R0) ?_
  by_cases hp : isPer S p
  · rw [xb_pos hp]
    refine Wp.vc 400 [22] rfl ?_
    refine ⟨fun w => absurd w (by decide), fun _ => ?_⟩
    refine Wp.callE (j := 0) rfl (Nat.le_of_ble_eq_true rfl) trivial (m_in w 0 2) ?_
    by_cases hw : 0 ≤ w ∧ w ≤ 2
    · rw [if_pos hw]
      obtain ⟨T, e, q0⟩ := hp
      obtain ⟨ne, TX, -, hq⟩ := R0.hasT e
      have hpm := (O.1 T e).1.2.2.2.1
      have c0 := TX.1.2.2
      have c7 := TX.2.1.2.2.1.2.2
      have v7 := (TX.2.2.2.2.1 p q0.1 q0.2).1
      have v8 := hq p q0.1 q0.2
      obtain ⟨t2, f2⟩ := R0.2.1.2.2.1
      have yes := opPerson_yes e ⟨q0, hw⟩
      clear TX R0 O p0 hq
      refine Wp.vc 400 [22, 71] rfl ?_
      rw [v7, f2, v8.1, v8.2]
      refine ⟨fun _ => ⟨fun c => ⟨fun c2 => ?_, fun c2 => ?_⟩, fun c => ?_⟩, fun w => absurd (show ¬ (1 : Int) = 0 by decide) w⟩
      · exact ⟨isF tm rfl, ⟨by omega, by omega⟩, isA t2 (by omega) (by omega), good _ (by rw [yes, if_neg c, if_neg c2])⟩
      · exact ⟨isF tm rfl, ⟨by omega, by omega⟩, isA t2 (by omega) (by omega), good _ (by rw [yes, if_neg c, if_pos (Decidable.of_not_not c2)])⟩
      · exact ⟨isF tm rfl, isF c0 rfl, isA c7 q0.1 (by omega), good _ (by rw [yes, if_pos (Decidable.of_not_not c)])⟩
    · rw [if_neg hw]
      refine Wp.vc 400 [22] rfl ?_
      exact ⟨fun w => absurd rfl w, fun _ => bad (opPerson_no (fun q => hw q.2))⟩
  · rw [xb_neg hp]
    refine Wp.vc 400 [22] rfl ?_
    exact ⟨fun _ => bad (opPerson_no (fun q => hp q.1)), fun w => absurd rfl w⟩
