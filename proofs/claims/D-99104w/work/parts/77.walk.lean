/-! WALKS, 18: candles -/
set_option maxRecDepth 100000
set_option maxHeartbeats 4000000
/-- the house behind so many doors; -2 -/
def xgo (V : Int → Int) : Nat → Int → Int
  | 0, g => g
  | n + 1, g => if g = -2 then g else xgo V n (V g)
theorem xgo_free (V : Int → Int) : ∀ n : Nat, xgo V n (-2) = -2 := by
  intro n
  cases n with
  | zero => rfl
  | succ n => exact if_pos rfl
theorem xgo_st {V : Int → Int} {k n g : Int} (h : k < n) (hg : g ≠ -2) : xgo V (n - k).toNat g = xgo V (n - (k + 1)).toNat (V g) := by
  have e : (n - k).toNat = (n - (k + 1)).toNat + 1 := by omega
  rw [e]
  exact if_neg hg
theorem x_behind {d : Nat} {h : XH} {B s n i m : Int} {S : XSt} {T : XTw} (R : Rx h B s S) (O : SOK n S) (e : sT S = some T) (i0 : 0 ≤ i ∧ i < tnh T) (m0 : 0 ≤ m ∧ m ≤ 1000) : WpM d 19 [.inr (.inr s), .inl i, .inl m] h (XE (some (.inl (xgo (sV S) m.toNat i))) h) := by
  obtain ⟨RT, hv, -⟩ := R.rooms O e
  have VO := (O.1 T e).2.1.1
  have hn := (O.1 T e).1.2.2.1
  have ts := R.2.1.2.1
  have f9 := R.2.1.2.2.2.2.1.1
  have tR := RT.1.2.1
  have tW := RT.1.2.2.1
  have f40 := RT.1.2.2.2.2.2.1
  clear RT R O
  refine WpM.of rfl (Wp.vc 400 [5] rfl ?_)
  have key : ∀ (q : Int × Int), (0 ≤ q.1 ∧ q.1 ≤ m ∧ (q.2 = -2 ∨ (0 ≤ q.2 ∧ q.2 < tnh T)) ∧ xgo (sV S) (m - q.1).toNat q.2 = xgo (sV S) m.toNat i) → Wp d 19 5 [some (.inr (.inr s)), some (.inl i), some (.inl m), some (.inl q.2), some (.inl q.1)] [] h (XE (some (.inl (xgo (sV S) m.toNat i))) h) := by
    refine loopM (fun q => (m - q.1).toNat) ?_
    rintro ⟨k, g⟩ ⟨k0, k1, g0, hr⟩ ih
    simp only at k0 k1 g0 hr ih
    refine Wp.vc 400 [5] rfl ?_
    refine ⟨fun c => ?_, fun c => ⟨fun c2 => ?_, fun c2 => ?_⟩⟩
    · have c : m ≤ k := c
      have ek : m - k = 0 := by omega
      rw [ek] at hr
      refine ⟨trivial, ?_, rfl⟩
      rw [← hr]
      rfl
    · have c2 : g = -2 := c2
      subst c2
      rw [xgo_free] at hr
      refine ⟨trivial, ?_, rfl⟩
      rw [← hr]
    · have c : ¬ m ≤ k := c
      have c2 : ¬ g = -2 := c2
      have g1 : 0 ≤ g ∧ g < tnh T := by
        rcases g0 with w | w
        · exact absurd w c2
        · exact w
      rw [f9, f40]
      have eg : xar h (s + 5 + 1) g = sV S g := hv g g1.1 g1.2
      refine ⟨isF ts rfl, isF tR rfl, isA tW g1.1 (by show g < 7; omega), ⟨by show -2147483648 ≤ k + 1; omega, by show k + 1 < 2147483648; omega⟩, ?_⟩
      show Wp d 19 5 [some (.inr (.inr s)), some (.inl i), some (.inl m), some (.inl (xar h (s + 5 + 1) g)), some (.inl (k + 1))] [] h _
      rw [eg]
      refine ih (k + 1, sV S g) ?_ ⟨by show 0 ≤ k + 1; omega, by show k + 1 ≤ m; omega, ?_, ?_⟩
      · show (m - (k + 1)).toNat < (m - k).toNat
        omega
      · show sV S g = -2 ∨ (0 ≤ sV S g ∧ sV S g < tnh T)
        rcases VO g g1.1 g1.2 with w | w
        · exact Or.inl w
        · exact Or.inr ⟨w.1, w.2.1⟩
      · rw [← hr]
        exact (xgo_st (by omega) c2).symm
  exact key (0, i) ⟨Int.le_refl 0, by show (0 : Int) ≤ m; omega, Or.inr i0, by show xgo (sV S) (m - 0).toNat i = _; rw [Int.sub_zero]⟩
def opCandleAt (S : XSt) (i k : Int) : Int × XSt := match sT S with
  | none => sNo S 1
  | some T => if 0 ≤ i ∧ i < tnh T then (if 0 ≤ k ∧ k ≤ 9 then sOk S (xgo (sV S) k.toNat i) else sNo S 2) else sNo S 1
theorem opCandleAt_no {S : XSt} {i k : Int} (h : ¬ isHou S i) : opCandleAt S i k = sNo S 1 := by
  unfold opCandleAt
  cases e : sT S with
  | none => rfl
  | some T => exact if_neg (fun q => h ⟨T, e, q⟩)
theorem opCandleAt_yes {S : XSt} {i k : Int} {T : XTw} (e : sT S = some T) (h : 0 ≤ i ∧ i < tnh T) : opCandleAt S i k = if 0 ≤ k ∧ k ≤ 9 then sOk S (xgo (sV S) k.toNat i) else sNo S 2 := by
  unfold opCandleAt
  rw [e]
  exact if_pos h
theorem x_opCandleAt {d : Nat} {h : XH} {B s n i k : Int} {S : XSt} (R : Rx h B s S) (O : SOK n S) : WpM (d + 2) 20 [.inr (.inr s), .inl i, .inl k] h (XAns (fun h' S' => Rx h' B s S') (XW s) (XA s) (some (.inl (opCandleAt S i k).1)) (opCandleAt S i k).2 h) := by
  have ts := R.2.1.2.1
  refine WpM.of rfl (Wp.vc 400 [] rfl ?_)
  refine Wp.callR (j := 0) rfl (Nat.le_of_ble_eq_true rfl) ⟨true, ts⟩ (x_anew R O) (fun v h1 q => ?_)
  obtain ⟨rfl, R1, p1, z1, z2⟩ := q
  have ts1 := R1.2.1.2.1
  have pp : XFr (XW s) (XA s) h h1 := p1.mono (fun z f _ w => w46_xw z f w) (fun _ _ w => w.elim)
  have no : ∀ k : Int, k ≠ 4 → ∀ d, WpM d 7 [.inr (.inr s), .inl k] h1 (XAns (fun h' S' => Rx h' B s S') (W46 s) xNoA (some (.inl (-1))) (sSet S k (-1)) h1) := fun k hk d => x_no (S := sSet S 0 (-1)) R1 O.set hk rfl
  clear R p1
  refine Wp.vc 400 [] rfl ?_
  refine Wp.callE (j := 0) rfl (Nat.le_of_ble_eq_true rfl) ⟨true, ts1⟩ (x_isHouse R1 O.set) ?_
  by_cases hp : isHou S i
  · rw [xb_pos (show isHou (sSet S 0 (-1)) i from hp)]
    obtain ⟨T, e, i0⟩ := hp
    have eo := opCandleAt_yes (k := k) e i0
    refine Wp.vc 400 [] rfl ?_
    refine ⟨fun _ => ?_, fun c => absurd (show ¬ (1 : Int) = 0 by decide) c⟩
    refine Wp.callE (j := 0) rfl (Nat.le_of_ble_eq_true rfl) trivial (x_in k 0 9) ?_
    by_cases c : 0 ≤ k ∧ k ≤ 9
    · rw [if_pos c] at eo ⊢
      rw [eo]
      refine Wp.vc 400 [] rfl ?_
      refine ⟨fun w => absurd w (by decide), fun _ => ?_⟩
      refine Wp.callE (j := 0) rfl (Nat.le_of_ble_eq_true rfl) ⟨true, ts1⟩ (x_behind R1 O.set e i0 ⟨c.1, by omega⟩) ?_
      refine Wp.vc 400 [] rfl ?_
      exact ⟨trivial, XAns.mk R1 pp z1 z2⟩
    · rw [if_neg c] at eo ⊢
      rw [eo]
      refine Wp.vc 400 [] rfl ?_
      refine ⟨fun _ => ?_, fun w => absurd rfl w⟩
      refine Wp.callR (j := 0) rfl (Nat.le_of_ble_eq_true rfl) ⟨true, ts1⟩ (no 2 (by decide) _) (fun v h2 q => ?_)
      obtain ⟨rfl, R2, p2, z3, z4⟩ := q
      refine Wp.vc 400 [] rfl ?_
      exact ⟨trivial, XAns.mk R2 (pp.trans p2 (fun z f _ w => w46_xw z f w) (fun _ _ w => w.elim)) (z3.trans z1) (z4.trans z2)⟩
  · rw [xb_neg (show ¬ isHou (sSet S 0 (-1)) i from hp), opCandleAt_no hp]
    refine Wp.vc 400 [] rfl ?_
    refine ⟨fun w => absurd rfl w, fun _ => ?_⟩
    refine Wp.callR (j := 0) rfl (Nat.le_of_ble_eq_true rfl) ⟨true, ts1⟩ (no 1 (by decide) _) (fun v h2 q => ?_)
    obtain ⟨rfl, R2, p2, z3, z4⟩ := q
    refine Wp.vc 400 [] rfl ?_
    exact ⟨trivial, XAns.mk R2 (pp.trans p2 (fun z f _ w => w46_xw z f w) (fun _ _ w => w.elim)) (z3.trans z1) (z4.trans z2)⟩
theorem m_opCandleAt {d : Nat} {h : XH} {B m n i k : Int} {S : XSt} (R : Rm h B m S) (O : SOK n S) : WpM (d + 2) 187 [.inr (.inr m), .inl i, .inl k] h (XAns (fun h' S' => Rm h' B m S') (MW m) (MA m) (some (.inl (opCandleAt S i k).1)) (opCandleAt S i k).2 h) := by
  obtain ⟨R0, p0, tm⟩ := R.begin
  refine WpM.of rfl (Wp.vc 400 [] rfl ?_)
  refine ⟨isW tm rfl, ?_⟩
  obtain ⟨g, hg⟩ : ∃ g, g = xputf h m 66 0 := ⟨_, rfl⟩
  have z0 : xsz g = xsz h ∧ xsl g = xsl h := by rw [hg]; exact ⟨rfl, rfl⟩
  rw [← hg] at R0 p0 ⊢
  clear hg R
  have tm := R0.2.1.1
  refine Wp.callE (j := 0) rfl (Nat.le_of_ble_eq_true rfl) ⟨true, tm⟩ (m_isHouse R0) ?_
  by_cases hp : isHou S i
  · rw [xb_pos hp]
    obtain ⟨T, e, i0⟩ := hp
    have eo := opCandleAt_yes (k := k) e i0
    refine Wp.vc 400 [] rfl ?_
    refine ⟨fun _ => ?_, fun c => absurd (show ¬ (1 : Int) = 0 by decide) c⟩
    refine Wp.callE (j := 0) rfl (Nat.le_of_ble_eq_true rfl) trivial (m_in k 0 9) ?_
    by_cases c : 0 ≤ k ∧ k ≤ 9
    · rw [if_pos c] at eo ⊢
      rw [eo]
      obtain ⟨ne, TX, hv, -⟩ := R0.hasT e
      have VO := (O.1 T e).2.1.1
      have hn := (O.1 T e).1.2.2.1
      obtain ⟨t2, f2⟩ := R0.2.1.2.2.1
      clear TX O
      refine Wp.vc 400 [40] rfl ?_
      refine ⟨fun _ => ?_, fun w => absurd (show ¬ (1 : Int) = 0 by decide) w⟩
      have key : ∀ (q : Int × Int), (0 ≤ q.1 ∧ q.1 ≤ k ∧ (q.2 = -2 ∨ (0 ≤ q.2 ∧ q.2 < tnh T)) ∧ xgo (sV S) (k - q.1).toNat q.2 = xgo (sV S) k.toNat i) → Wp (d + 2) 187 40 [some (.inr (.inr m)), some (.inl i), some (.inl k), some (.inl q.2), some (.inl q.1)] [] g (XAns (fun h' S' => Rm h' B m S') (MW m) (MA m) (some (.inl (sOk S (xgo (sV S) k.toNat i)).1)) (sOk S (xgo (sV S) k.toNat i)).2 h) := by
        refine loopM (fun q => (k - q.1).toNat) ?_
        rintro ⟨a, b⟩ ⟨k0, k1, g0, hr⟩ ih
        simp only at k0 k1 g0 hr ih
        have fin : b = xgo (sV S) k.toNat i → Wp (d + 2) 187 67 [some (.inr (.inr m)), some (.inl i), some (.inl k), some (.inl b), some (.inl a)] [] g (XAns (fun h' S' => Rm h' B m S') (MW m) (MA m) (some (.inl (sOk S (xgo (sV S) k.toNat i)).1)) (sOk S (xgo (sV S) k.toNat i)).2 h) := by
          intro eb
          rw [← eb]
          refine Wp.vc 400 [] rfl ?_
          refine Wp.callR (j := 0) rfl (Nat.le_of_ble_eq_true rfl) ⟨true, tm⟩ (m_good R0) (fun v h2 q => ?_)
          obtain ⟨rfl, R2, p2, z3, z4⟩ := q
          refine Wp.vc 400 [] rfl ?_
          exact ⟨trivial, XAns.mk R2 (p0.trans p2 (fun z f _ w => w678_mw z f w) (fun _ _ w => w.elim)) (z3.trans z0.1) (z4.trans z0.2)⟩
        refine Wp.vc 400 [40, 67] rfl ?_
        refine ⟨fun c => fin ?_, fun c => ⟨fun c2 => fin ?_, fun c2 => ?_⟩⟩
        · have c : k ≤ a := c
          have ek : k - a = 0 := by omega
          rw [ek] at hr
          exact hr
        · have c2 : b = -2 := c2
          subst c2
          rw [xgo_free] at hr
          exact hr
        · have c : ¬ k ≤ a := c
          have c2 : ¬ b = -2 := c2
          have g1 : 0 ≤ b ∧ b < tnh T := by
            rcases g0 with w | w
            · exact absurd w c2
            · exact w
          have eg : xar g (m + 2) b = sV S b := hv b g1.1 (by omega)
          rw [f2, show ((a, b) : Int × Int).snd = b from rfl, Int.zero_add]
          refine ⟨isF tm rfl, ⟨by omega, by omega⟩, isA t2 g1.1 (by omega), ⟨by show -2147483648 ≤ a + 1; omega, by show a + 1 < 2147483648; omega⟩, ?_⟩
          rw [eg]
          refine ih (a + 1, sV S b) ?_ ⟨by show 0 ≤ a + 1; omega, by show a + 1 ≤ k; omega, ?_, ?_⟩
          · show (k - (a + 1)).toNat < (k - a).toNat
            omega
          · show sV S b = -2 ∨ (0 ≤ sV S b ∧ sV S b < tnh T)
            rcases VO b g1.1 g1.2 with w | w
            · exact Or.inl w
            · exact Or.inr ⟨w.1, w.2.1⟩
          · rw [← hr]
            exact (xgo_st (by omega) c2).symm
      exact key (0, i) ⟨Int.le_refl 0, c.1, Or.inr i0, by show xgo (sV S) (k - 0).toNat i = _; rw [Int.sub_zero]⟩
    · rw [if_neg c] at eo ⊢
      rw [eo]
      refine Wp.vc 400 [40] rfl ?_
      refine ⟨fun w => absurd rfl w, fun _ => ?_⟩
      refine Wp.callR (j := 0) rfl (Nat.le_of_ble_eq_true rfl) ⟨true, tm⟩ (m_refused R0) (fun v h2 q => ?_)
      obtain ⟨rfl, R2, p2, z3, z4⟩ := q
      refine Wp.vc 400 [] rfl ?_
      exact ⟨trivial, XAns.mk R2 (p0.trans p2 (fun z f _ w => w678_mw z f w) (fun _ _ w => w.elim)) (z3.trans z0.1) (z4.trans z0.2)⟩
  · rw [xb_neg hp, opCandleAt_no hp]
    refine Wp.vc 400 [] rfl ?_
    refine ⟨fun w => absurd rfl w, fun _ => ?_⟩
    refine Wp.callR (j := 0) rfl (Nat.le_of_ble_eq_true rfl) ⟨true, tm⟩ (m_refused R0) (fun v h2 q => ?_)
    obtain ⟨rfl, R2, p2, z3, z4⟩ := q
    refine Wp.vc 400 [] rfl ?_
    exact ⟨trivial, XAns.mk R2 (p0.trans p2 (fun z f _ w => w678_mw z f w) (fun _ _ w => w.elim)) (z3.trans z0.1) (z4.trans z0.2)⟩
