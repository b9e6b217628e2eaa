/-! WALKS, 17: house -/
set_option maxRecDepth 100000
set_option maxHeartbeats 4000000
theorem xfst_congr {p q : Int → Bool} : ∀ (m : Nat) (k : Int), (∀ i, k ≤ i → i < k + m → p i = q i) → xfst p m k = xfst q m k := by
  intro m
  induction m with
  | zero => intro k _; rfl
  | succ m ih =>
    intro k h
    show (if p k = true then k else xfst p m (k + 1)) = (if q k = true then k else xfst q m (k + 1))
    rw [h k (Int.le_refl _) (by omega), ih (k + 1) (fun i h1 h2 => h i (by omega) (by omega))]
theorem xlender_congr {w v : Int → Int} {n g : Int} (h : ∀ i : Int, 0 ≤ i → i < n → w i = v i) : xlender w n g = xlender v n g :=
  xfst_congr _ _ fun i h0 h1 => by rw [h i h0 (by omega)]
def houseVal (T : XTw) (V : Int → Int) (i w : Int) : Int := if w = 0 then thv T 0 i else if w = 1 then thv T 1 i else if w = 2 then thv T 2 i else if w = 3 then V i else if w = 4 then xlender V (tnh T) i else if xbit (V 7) i then 1 else 0
def opHouse (S : XSt) (i w : Int) : Int × XSt := match sT S with
  | none => sNo S 1
  | some T => if (0 ≤ i ∧ i < tnh T) ∧ (0 ≤ w ∧ w ≤ 5) then sOk S (houseVal T (sV S) i w) else sNo S 1
theorem opHouse_no {S : XSt} {i w : Int} (h : ¬ (isHou S i ∧ (0 ≤ w ∧ w ≤ 5))) : opHouse S i w = sNo S 1 := by
  unfold opHouse
  cases e : sT S with
  | none => rfl
  | some T => exact if_neg (fun q => h ⟨⟨T, e, q.1⟩, q.2⟩)
theorem opHouse_yes {S : XSt} {i w : Int} {T : XTw} (e : sT S = some T) (h : (0 ≤ i ∧ i < tnh T) ∧ (0 ≤ w ∧ w ≤ 5)) : opHouse S i w = sOk S (houseVal T (sV S) i w) := by
  unfold opHouse
  rw [e]
  exact if_pos h
theorem x_opHouse {d : Nat} {h : XH} {B s n i w : Int} {S : XSt} (R : Rx h B s S) (O : SOK n S) : WpM (d + 2) 10 [.inr (.inr s), .inl i, .inl w] h (XAns (fun h' S' => Rx h' B s S') (XW s) (XA s) (some (.inl (opHouse S i w).1)) (opHouse S i w).2 h) := by
  have ts := R.2.1.2.1
  refine WpM.of rfl (Wp.vc 400 [] rfl ?_)
  refine Wp.callR (j := 0) rfl (Nat.le_of_ble_eq_true rfl) ⟨true, ts⟩ (x_anew R O) (fun v h1 q => ?_)
  obtain ⟨rfl, R1, p1, z1, z2⟩ := q
  have ts1 := R1.2.1.2.1
  have pp : XFr (XW s) (XA s) h h1 := p1.mono (fun z f _ w => w46_xw z f w) (fun _ _ w => w.elim)
  have no : ∀ k : Int, k ≠ 4 → ∀ d, WpM d 7 [.inr (.inr s), .inl k] h1 (XAns (fun h' S' => Rx h' B s S') (W46 s) xNoA (some (.inl (-1))) (sSet S k (-1)) h1) := fun k hk d => x_no (S := sSet S 0 (-1)) R1 O.set hk rfl
  clear R p1
  refine Wp.vc 400 [] rfl ?_
  refine Wp.callE (j := 0) rfl (Nat.le_of_ble_eq_true rfl) ⟨true, ts1⟩ (x_isHouse R1 O.set) ?_
  by_cases hp : isHou S i
  · rw [xb_pos (show isHou (sSet S 0 (-1)) i from hp)]
    obtain ⟨T, e, i0⟩ := hp
    obtain ⟨RT, hv, ne, TX, SN⟩ := R1.rooms O.set e
    have hn := (O.1 T e).1.2.2.1
    have h7 := (O.1 T e).2.1.2.2.2.1
    have HX := TX.2.2.2.1 i i0.1 i0.2
    have ct := TX.1.2.2
    have ch := TX.2.1.1.2.2
    have f9 := R1.2.1.2.2.2.2.1.1
    have f44 := SN.2.2.1
    have f40 := RT.1.2.2.2.2.2.1
    have tR := RT.1.2.1
    have tW := RT.1.2.2.1
    have ln := x_lender (d := d + 1) (g := i) RT
    have vi := hv i i0.1 i0.2
    rw [xlender_congr hv] at ln
    have ca := HX.1.2.2
    have e0 := HX.2.1.2.1
    have e1 := HX.2.1.2.2.1
    have e2 := HX.2.1.2.2.2.1
    have yes := fun hw => opHouse_yes (w := w) e ⟨i0, hw⟩
    have nope := fun hw => opHouse_no (S := S) (i := i) (w := w) hw
    have has := x_has (d := d + 1) (h := h1) (sV S 7) i ⟨by omega, by omega⟩ ⟨i0.1, by omega⟩
    clear TX SN RT hv O HX
    refine Wp.vc 400 [29] rfl ?_
    refine ⟨fun _ => ⟨isF ts1 rfl, isF ct rfl, isR ch (by decide) i0.1 (by omega), ?_⟩, fun c => absurd (show ¬ (1 : Int) = 0 by decide) c⟩
    by_cases hw : 0 ≤ w ∧ w ≤ 5
    · rw [yes hw]
      clear yes nope no
      have hc : w = 0 ∨ w = 1 ∨ w = 2 ∨ w = 3 ∨ w = 4 ∨ w = 5 := by omega
      rcases hc with rfl | rfl | rfl | rfl | rfl | rfl
      · refine Wp.vc 400 [] rfl ?_
        rw [e0]
        exact ⟨isF ca rfl, trivial, XAns.mk R1 pp z1 z2⟩
      · refine Wp.vc 400 [] rfl ?_
        rw [e1]
        exact ⟨isF ca rfl, trivial, XAns.mk R1 pp z1 z2⟩
      · refine Wp.vc 400 [] rfl ?_
        rw [e2]
        exact ⟨isF ca rfl, trivial, XAns.mk R1 pp z1 z2⟩
      · refine Wp.vc 400 [] rfl ?_
        rw [f9, f40, vi]
        exact ⟨isF ts1 rfl, isF tR rfl, isA tW i0.1 (by omega), trivial, XAns.mk R1 pp z1 z2⟩
      · refine Wp.vc 400 [] rfl ?_
        rw [f9]
        refine ⟨isF ts1 rfl, ?_⟩
        refine Wp.callE (j := 0) rfl (Nat.le_of_ble_eq_true rfl) ⟨true, tR⟩ ln ?_
        refine Wp.vc 400 [] rfl ?_
        exact ⟨trivial, XAns.mk R1 pp z1 z2⟩
      · refine Wp.vc 400 [] rfl ?_
        rw [f9, f44]
        refine ⟨isF ts1 rfl, isF tR rfl, ?_⟩
        refine Wp.callE (j := 0) rfl (Nat.le_of_ble_eq_true rfl) trivial has ?_
        have done : XAns (fun h' S' => Rx h' B s S') (XW s) (XA s) (some (.inl (sOk S (if xbit (sV S 7) i then 1 else 0)).1)) (sOk S (houseVal T (sV S) i 5)).2 h (.inl (some (.inl (if xbit (sV S 7) i then 1 else 0)))) h1 := XAns.mk R1 pp z1 z2
        show Wp _ _ _ _ _ _ (XAns (fun h' S' => Rx h' B s S') (XW s) (XA s) (some (.inl (sOk S (if xbit (sV S 7) i then 1 else 0)).1)) (sOk S (houseVal T (sV S) i 5)).2 h)
        by_cases q : xbit (sV S 7) i
        · rw [if_pos q] at done ⊢
          refine Wp.vc 400 [] rfl ?_
          exact ⟨fun w => absurd w (by decide), fun _ => ⟨trivial, done⟩⟩
        · rw [if_neg q] at done ⊢
          refine Wp.vc 400 [] rfl ?_
          exact ⟨fun _ => ⟨trivial, done⟩, fun w => absurd rfl w⟩
    · rw [nope (fun q => hw q.2)]
      refine Wp.sw rfl (t := 122) ?_ ?_
      · simp only [xsw]
        rw [if_neg (by omega), if_neg (by omega), if_neg (by omega), if_neg (by omega), if_neg (by omega), if_neg (by omega)]
      · refine Wp.vc 400 [] rfl ?_
        refine Wp.callR (j := 0) rfl (Nat.le_of_ble_eq_true rfl) ⟨true, ts1⟩ (no 1 (by decide) _) (fun v h2 q => ?_)
        obtain ⟨rfl, R2, p2, z3, z4⟩ := q
        refine Wp.vc 400 [] rfl ?_
        exact ⟨trivial, XAns.mk R2 (pp.trans p2 (fun z f _ w => w46_xw z f w) (fun _ _ w => w.elim)) (z3.trans z1) (z4.trans z2)⟩
  · rw [xb_neg (show ¬ isHou (sSet S 0 (-1)) i from hp), opHouse_no (fun q => hp q.1)]
    refine Wp.vc 400 [29] rfl ?_
    refine ⟨fun w => absurd rfl w, fun _ => ?_⟩
    refine Wp.callR (j := 0) rfl (Nat.le_of_ble_eq_true rfl) ⟨true, ts1⟩ (no 1 (by decide) _) (fun v h2 q => ?_)
    obtain ⟨rfl, R2, p2, z3, z4⟩ := q
    refine Wp.vc 400 [] rfl ?_
    exact ⟨trivial, XAns.mk R2 (pp.trans p2 (fun z f _ w => w46_xw z f w) (fun _ _ w => w.elim)) (z3.trans z1) (z4.trans z2)⟩
theorem m_opHouse {d : Nat} {h : XH} {B m n i w : Int} {S : XSt} (R : Rm h B m S) (O : SOK n S) : WpM (d + 2) 177 [.inr (.inr m), .inl i, .inl w] h (XAns (fun h' S' => Rm h' B m S') (MW m) (MA m) (some (.inl (opHouse S i w).1)) (opHouse S i w).2 h) := by
  obtain ⟨R0, p0, tm⟩ := R.begin
  refine WpM.of rfl (Wp.vc 400 [] rfl ?_)
  refine ⟨isW tm rfl, ?_⟩
  obtain ⟨g, hg⟩ : ∃ g, g = xputf h m 66 0 := ⟨_, rfl⟩
  have z0 : xsz g = xsz h ∧ xsl g = xsl h := by rw [hg]; exact ⟨rfl, rfl⟩
  rw [← hg] at R0 p0 ⊢
  clear hg R
  have tm := R0.2.1.1
  have bad : opHouse S i w = sNo S 1 → Wp (d + 2) 177 22 [some (.inr (.inr m)), some (.inl i), some (.inl w)] [] g (XAns (fun h' S' => Rm h' B m S') (MW m) (MA m) (some (.inl (opHouse S i w).1)) (opHouse S i w).2 h) := by
    intro e
    rw [e]
    refine Wp.vc 400 [] rfl ?_
    refine Wp.callR (j := 0) rfl (Nat.le_of_ble_eq_true rfl) ⟨true, tm⟩ (m_refused R0) (fun v h2 q => ?_)
    obtain ⟨rfl, R2, p2, z3, z4⟩ := q
    refine Wp.vc 400 [] rfl ?_
    exact ⟨trivial, XAns.mk R2 (p0.trans p2 (fun z f _ w => w678_mw z f w) (fun _ _ w => w.elim)) (z3.trans z0.1) (z4.trans z0.2)⟩
  have good : ∀ v : Int, ∀ pc np : Nat, opHouse S i w = sOk S v → xstK 177 pc 0 [.inl v, .inr (.inr m)] = some (np, some 9, 174, [.inr (.inr m), .inl v], []) → xstR 177 np [.inl v] = some (True, some (.inl v)) → Wp (d + 2) 177 pc [some (.inr (.inr m)), some (.inl i), some (.inl w)] [.inl v, .inr (.inr m)] g (XAns (fun h' S' => Rm h' B m S') (MW m) (MA m) (some (.inl (opHouse S i w).1)) (opHouse S i w).2 h) := by
    intro v pc np e k1 k2
    rw [e]
    refine Wp.callR (j := 0) k1 (Nat.le_of_ble_eq_true rfl) ⟨true, tm⟩ (m_good R0) (fun v' h2 q => ?_)
    obtain ⟨rfl, R2, p2, z3, z4⟩ := q
    exact Wp.rt k2 trivial (XAns.mk R2 (p0.trans p2 (fun z f _ w => w678_mw z f w) (fun _ _ w => w.elim)) (z3.trans z0.1) (z4.trans z0.2))
  refine Wp.callE (j := 0) rfl (Nat.le_of_ble_eq_true rfl) ⟨true, tm⟩ (m_isHouse R0) ?_
  by_cases hp : isHou S i
  · rw [xb_pos hp]
    refine Wp.vc 400 [22] rfl ?_
    refine ⟨fun w => absurd w (by decide), fun _ => ?_⟩
    refine Wp.callE (j := 0) rfl (Nat.le_of_ble_eq_true rfl) trivial (m_in w 0 5) ?_
    by_cases hw : 0 ≤ w ∧ w ≤ 5
    · rw [if_pos hw]
      obtain ⟨T, e, i0⟩ := hp
      obtain ⟨ne, TX, hv, -⟩ := R0.hasT e
      have hn := (O.1 T e).1.2.2.1
      have h7 := (O.1 T e).2.1.2.2.2.1
      have c0 := TX.1.2.2
      have c1 := TX.2.1.1.1.2.2
      have c2 := TX.2.1.1.2.1.2.2
      have c3 := TX.2.1.1.2.2.1.2.2
      obtain ⟨v0, v1, v2, -⟩ := TX.2.2.2.1 i i0.1 i0.2
      obtain ⟨t2, f2⟩ := R0.2.1.2.2.1
      have vi := hv i i0.1 (by omega)
      have vs := hv 7 (by decide) (by decide)
      have ln := m_whose (d := d + 1) (g := i) (n := tnh T) R0.2.1 rfl c0 TX.2.2.1.2.2.1 (by omega) hn.2
      rw [xlender_congr (fun k k0 k1 => hv k k0 (by omega))] at ln
      have bt := m_bit (d := d + 1) (h := g) (sV S 7) i ⟨by omega, by omega⟩ ⟨i0.1, by omega⟩
      have yes := opHouse_yes e ⟨i0, hw⟩
      clear TX R0 O p0 hv bad
      refine Wp.vc 400 [22, 29] rfl ?_
      refine ⟨fun _ => ?_, fun w => absurd (show ¬ (1 : Int) = 0 by decide) w⟩
      have hc : w = 0 ∨ w = 1 ∨ w = 2 ∨ w = 3 ∨ w = 4 ∨ w = 5 := by omega
      rcases hc with rfl | rfl | rfl | rfl | rfl | rfl
      · refine Wp.vc 400 [] rfl ?_
        rw [v0]
        exact ⟨isF tm rfl, isF c0 rfl, isA c1 i0.1 (by omega), good _ _ _ yes rfl rfl⟩
      · refine Wp.vc 400 [] rfl ?_
        rw [v1]
        exact ⟨isF tm rfl, isF c0 rfl, isA c2 i0.1 (by omega), good _ _ _ yes rfl rfl⟩
      · refine Wp.vc 400 [] rfl ?_
        rw [v2]
        exact ⟨isF tm rfl, isF c0 rfl, isA c3 i0.1 (by omega), good _ _ _ yes rfl rfl⟩
      · refine Wp.vc 400 [] rfl ?_
        rw [f2, Int.zero_add, vi]
        exact ⟨isF tm rfl, ⟨by omega, by omega⟩, isA t2 i0.1 (by omega), good _ _ _ yes rfl rfl⟩
      · refine Wp.vc 400 [] rfl ?_
        refine Wp.callE (j := 0) rfl (Nat.le_of_ble_eq_true rfl) ⟨true, tm⟩ ln ?_
        exact good _ _ _ yes rfl rfl
      · refine Wp.vc 400 [] rfl ?_
        rw [f2, vs]
        refine ⟨isF tm rfl, isA t2 (by decide) (by decide), ?_⟩
        refine Wp.callE (j := 0) rfl (Nat.le_of_ble_eq_true rfl) trivial bt ?_
        by_cases q : xbit (sV S 7) i
        · have y2 : opHouse S i 5 = sOk S 1 := by rw [yes]; unfold houseVal; rw [if_neg (by decide), if_neg (by decide), if_neg (by decide), if_neg (by decide), if_neg (by decide), if_pos q]
          rw [if_pos q]
          refine Wp.vc 400 [] rfl ?_
          exact ⟨fun w => absurd w (by decide), fun _ => good 1 _ _ y2 rfl rfl⟩
        · have y2 : opHouse S i 5 = sOk S 0 := by rw [yes]; unfold houseVal; rw [if_neg (by decide), if_neg (by decide), if_neg (by decide), if_neg (by decide), if_neg (by decide), if_neg q]
          rw [if_neg q]
          refine Wp.vc 400 [] rfl ?_
          exact ⟨fun _ => good 0 _ _ y2 rfl rfl, fun w => absurd rfl w⟩
    · rw [if_neg hw]
      refine Wp.vc 400 [22, 29] rfl ?_
      exact ⟨fun w => absurd rfl w, fun _ => bad (opHouse_no (fun q => hw q.2))⟩
  · rw [xb_neg hp]
    refine Wp.vc 400 [22] rfl ?_
    exact ⟨fun _ => bad (opHouse_no (fun q => hp q.1)), fun w => absurd rfl w⟩
