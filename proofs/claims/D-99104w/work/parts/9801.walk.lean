/-! WALKS, 40: acts, the model, on -/
set_option maxRecDepth 100000
set_option maxHeartbeats 4000000
/-- what remembers() leaves -/
theorem rem_keep {h g : XH} {B m n : Int} {h0 : XH} {S : XSt} (U : MU B m n h0 h S) (p : XFr (fun z f => z = m ∧ f = 84) (fun z => z = m + 3) h g) : (∀ c i : Int, c < 16 → c ≠ 3 → xar g (m + c) i = xar h (m + c) i) ∧ (∀ f, f ≠ 84 → xfl g m f = xfl h m f) :=
  ⟨fun c i h1 h2 => p.2.2.2.2 _ i (by have := U.bnd; omega) (fun w => by omega), fun f hf => p.2.2.2.1 m f (by have := U.bnd; omega) (fun w => hf w.2)⟩
theorem m_opExchange {d : Nat} {h : XH} {B m n i j : Int} {S : XSt} (R : Rm h B m S) (O : SOK n S) : WpM (d + 2) 242 [.inr (.inr m), .inl i, .inl j] h (MAn B m h (.inl (opExchange S i j).1) (opExchange S i j).2) := by
  refine WpM.of rfl (MU.start R O rfl (fun g U => ?_))
  have bad : opExchange S i j = sNoB S 1 → Wp (d + 2) 242 26 [some (.inr (.inr m)), some (.inl i), some (.inl j)] [] g (MAn B m h (.inl (opExchange S i j).1) (opExchange S i j).2) := by
    intro e
    rw [e]
    refine Wp.vc 400 [] rfl ?_
    exact U.denied (k := 1) rfl (fun _ => rfl) rfl
  refine Wp.vc 400 [] rfl ?_
  refine U.hou rfl (Nat.zero_le _) (fun T e i0 => ?_) (fun hp => ?_)
  · refine Wp.vc 400 [26] rfl ?_
    first | refine ⟨fun _ => ?_, fun c => absurd (by decide) c⟩ | refine ⟨fun c => absurd c (by decide), fun _ => ?_⟩
    refine U.hou rfl (Nat.zero_le _) (fun T' e' j0 => ?_) (fun hp => ?_)
    · rw [e] at e'
      cases e'
      refine Wp.vc 400 [26, 32] rfl ?_
      first | refine ⟨fun _ => ?_, fun c => absurd (by decide) c⟩ | refine ⟨fun c => absurd c (by decide), fun _ => ?_⟩
      refine ⟨fun ne => ?_, fun c => bad (opExchange_no (fun w => c w.2.2))⟩
      have TO := (U.ok e).1
      have VO := (U.ok e).2
      have hn := TO.2.2.1
      have hp := TO.2.2.2.1
      have bm := U.bnd
      refine Wp.vc 400 [] rfl ?_
      refine Wp.callR (j := 0) rfl (Nat.le_of_ble_eq_true rfl) ⟨true, U.tm⟩ (m_tries U.lay (by omega)) (fun v h2 q => ?_)
      obtain ⟨rfl, q1, q2, z3, z4⟩ := q
      have hv := (U.hasT e).2.2.1
      have U2 : MU B m n h h2 S := U.scr (q2.mono (fun _ _ _ w => w.elim) (fun z _ w => ⟨by omega, by omega⟩)) z3 z4
      have row : ∀ i : Int, 0 ≤ i → i < 7 → xar h2 (m + 5) i = sV S i := fun i h0 h1 => (q1 i h0 h1).trans (hv i h0 (by omega))
      clear q1 q2 z3 z4 hv
      have tm := U2.tm
      obtain ⟨t5, f5⟩ := U2.lay.2.2.2.2.2.1
      have cx := m_canExchange (d := d + 1) t5 (h := i) (g := j) ⟨i0.1, by omega⟩ ⟨j0.1, by omega⟩
      have eqv := canEx_congr (V := xar h2 (m + 5)) (W := sV S) (n := tnh T) (fun q q0 q1 => row q q0 (by omega)) i0 j0
      refine Wp.vc 400 [] rfl ?_
      rw [f5]
      refine ⟨isF tm rfl, ?_⟩
      refine Wp.callE (j := 0) rfl (Nat.le_of_ble_eq_true rfl) trivial cx ?_
      by_cases c : canEx (sV S) i j
      · rw [if_pos (eqv.mpr c), opExchange_y e i0 j0 ne c]
        refine Wp.vc 400 [] rfl ?_
        refine ⟨fun _ => ?_, fun w => absurd (show ¬ (1 : Int) = 0 by decide) w⟩
        refine U2.remK e rfl (Nat.zero_le _) (fun h3 U3 p3 => ?_)
        obtain ⟨ka, kf⟩ := rem_keep U2 p3
        have tm3 := U3.tm
        obtain ⟨t2, f81⟩ := U3.v2
        obtain ⟨t5, f5⟩ := U3.lay.2.2.2.2.2.1
        obtain ⟨-, -, hv3, hq3⟩ := U3.hasT e
        have hv3 : ∀ i : Int, 0 ≤ i → i < 8 → xar h3 (m + 2) i = sV S i := hv3
        have xi : ∀ q : Int, 0 ≤ q → q < 7 → xar h3 (m + 5) q = sV S q := fun q q0 q1 => (ka 5 q (by decide) (by decide)).trans (row q q0 q1)
        have p4 : XFr (fun _ _ => False) (fun z => z = m + 2) h3 (xputa (xputa h3 (m + 2) i (sV S j)) (m + 2) j (sV S i)) := by
          refine XFr.puta (XFr.puta (XFr.refl _) ?_) ?_ <;> exact Or.inr rfl
        have rd : ∀ q : Int, xar (xputa (xputa h3 (m + 2) i (sV S j)) (m + 2) j (sV S i)) (m + 2) q = if q = j then sV S i else if q = i then sV S j else xar h3 (m + 2) q := fun q => by
          rw [xar_puta]
          by_cases c1 : q = j
          · rw [if_pos ⟨rfl, c1⟩, if_pos c1]
          · rw [if_neg (fun w => c1 w.2), if_neg c1, xar_puta]
            by_cases c2 : q = i
            · rw [if_pos ⟨rfl, c2⟩, if_pos c2]
            · rw [if_neg (fun w => c2 w.2), if_neg c2]
        have U4 := U3.putV e p4 rfl rfl (V := swp (sV S) i j) ⟨fun q q0 q1 => by
          rw [rd, hv3 q q0 q1]
          rfl, fun q q0 q1 => by
          rw [rd, rd, if_neg (by omega), if_neg (by omega), if_neg (by omega), if_neg (by omega), swp_at (by omega) (by omega), swp_at (by omega) (by omega)]
          exact hq3 q q0 q1⟩ (SOK.putV (T := T) U3.2.1 e (VO.swpd hn.2 i0 j0 c))
        refine Wp.vc 400 [] rfl ?_
        rw [f81, f5, Int.zero_add, Int.zero_add, xi j j0.1 (by omega), show xfl (xputa h3 (m + 2) i (sV S j)) m 81 = m + 2 from f81, show xfl (xputa h3 (m + 2) i (sV S j)) m 86 = m + 5 from f5, show xar (xputa h3 (m + 2) i (sV S j)) (m + 5) i = sV S i by rw [xar_puta, if_neg (fun w => by omega)]; exact xi i i0.1 (by omega)]
        refine ⟨isF tm3 rfl, ⟨by omega, by omega⟩, isF tm3 rfl, isA t5 j0.1 (by omega), isB t2 i0.1 (by omega), isF tm3 rfl, ⟨by omega, by omega⟩, isF tm3 rfl, isA t5 i0.1 (by omega), isB t2 j0.1 (by omega), ?_⟩
        exact U4.granted rfl (fun _ => rfl) rfl
      · rw [if_neg (fun w => c (eqv.mp w)), opExchange_5 e i0 j0 ne c]
        refine Wp.vc 400 [] rfl ?_
        refine ⟨fun w => absurd rfl w, fun _ => ?_⟩
        exact U2.denied (k := 5) rfl (fun _ => rfl) rfl
    · refine Wp.vc 400 [26] rfl ?_
      exact ⟨fun _ => bad (opExchange_no (fun w => hp w.2.1)), fun w => absurd rfl w⟩
  · refine Wp.vc 400 [26] rfl ?_
    exact ⟨fun _ => bad (opExchange_no (fun w => hp w.1)), fun w => absurd rfl w⟩
theorem m_opShut {d : Nat} {h : XH} {B m n i b : Int} {S : XSt} (R : Rm h B m S) (O : SOK n S) : WpM (d + 2) 246 [.inr (.inr m), .inl i, .inl b] h (MAn B m h (.inl (opShut S i b).1) (opShut S i b).2) := by
  refine WpM.of rfl (MU.start R O rfl (fun g U => ?_))
  refine Wp.vc 400 [] rfl ?_
  refine U.hou rfl (Nat.zero_le _) (fun T e i0 => ?_) (fun hp => ?_)
  · have TO := (U.ok e).1
    have VO := (U.ok e).2
    have hn := TO.2.2.1
    have h7 := VO.2.2.2.1
    have tm := U.tm
    obtain ⟨t2, f81⟩ := U.v2
    have v7 := (U.hasT e).2.2.1 7 (by decide) (by decide)
    refine Wp.vc 400 [] rfl ?_
    rw [f81, v7]
    refine ⟨fun _ => ⟨isF tm rfl, isA t2 (by decide) (by decide), ?_⟩, fun w => absurd (show ¬ (1 : Int) = 0 by decide) w⟩
    refine Wp.callE (j := 0) rfl (Nat.le_of_ble_eq_true rfl) trivial (m_bit (sV S 7) i ⟨by omega, by omega⟩ ⟨i0.1, by omega⟩) ?_
    refine Wp.vc 400 [] rfl ?_
    refine ⟨fun c => ?_, fun c => ?_⟩
    · rw [opShut_y e i0 c]
      refine U.remK e rfl (Nat.zero_le _) (fun h3 U3 p3 => ?_)
      have tm3 := U3.tm
      obtain ⟨t2, f81⟩ := U3.v2
      obtain ⟨-, -, hv3, hq3⟩ := U3.hasT e
      have hv3 : ∀ i : Int, 0 ≤ i → i < 8 → xar h3 (m + 2) i = sV S i := hv3
      have x2 := x2k (k := i) ⟨i0.1, by omega⟩
      have p4 : XFr (fun _ _ => False) (fun z => z = m + 2) h3 (xputa h3 (m + 2) 7 (xxor (sV S 7) (1 * 2 ^ i.toNat))) := (XFr.refl h3).puta (Or.inr rfl)
      have rd : ∀ q : Int, xar (xputa h3 (m + 2) 7 (xxor (sV S 7) (1 * 2 ^ i.toNat))) (m + 2) q = if q = 7 then xxor (sV S 7) (1 * 2 ^ i.toNat) else xar h3 (m + 2) q := fun q => by
        rw [xar_puta]
        by_cases c1 : q = 7
        · rw [if_pos ⟨rfl, c1⟩, if_pos c1]
        · rw [if_neg (fun w => c1 w.2), if_neg c1]
      have U4 := U3.putV e p4 rfl rfl (V := shutV (sV S) i) ⟨fun q q0 q1 => by
        rw [rd, hv3 q q0 q1]
        rfl, fun q q0 q1 => by
        rw [rd, rd, if_neg (by omega), if_neg (by omega)]
        exact ⟨(hq3 q q0 q1).1.trans (if_neg (by omega)).symm, (hq3 q q0 q1).2.trans (if_neg (by omega)).symm⟩⟩ (SOK.putV (T := T) U3.2.1 e (VO.shut ⟨by omega, hn.2⟩ i0))
      refine Wp.vc 400 [] rfl ?_
      rw [f81, hv3 7 (by decide) (by decide)]
      refine ⟨isF tm3 rfl, isA t2 (by decide) (by decide), ⟨i0.1, by omega, x2.1, x2.2⟩, isB t2 (by decide) (by decide), ?_⟩
      exact U4.granted rfl (fun _ => rfl) rfl
    · rw [opShut_5 e i0 (Decidable.of_not_not c)]
      exact U.denied (k := 5) rfl (fun _ => rfl) rfl
  · rw [opShut_no hp]
    refine Wp.vc 400 [] rfl ?_
    first | refine ⟨fun _ => ?_, fun c => absurd (by decide) c⟩ | refine ⟨fun c => absurd c (by decide), fun _ => ?_⟩
    exact U.denied (k := 1) rfl (fun _ => rfl) rfl
/-- where one is, his minutes are written -/
theorem MU.goK {B m n p g t : Int} {h0 h : XH} {S : XSt} {T : XTw} (U : MU B m n h0 h S) (e : sT S = some T) (p0 : 0 ≤ p ∧ p < tpm T) (g0 : 0 ≤ g ∧ g < tnh T) (t0 : 0 ≤ t ∧ t ≤ 1000 * (n + 1)) (n63 : n ≤ 63) {k : XH} (p3 : XFr (fun _ _ => False) (fun z => z = m + 2) h k) (zz : xsz k = xsz h ∧ xsl k = xsl h) (rd : ∀ q, xar k (m + 2) q = if q = 8 + p then g else if q = 12 + p then t else xar h (m + 2) q) : MU B m (n + 1) h0 k (sPutV S (goV (sV S) p g t)) := by
  have hn := (U.ok e).1.2.2.1
  have hp := (U.ok e).1.2.2.2.1
  have VO := (U.ok e).2
  have n0 : 0 ≤ n := U.2.1.2.2.2.2.2.1
  obtain ⟨-, -, hv, hq⟩ := U.hasT e
  refine U.putV e p3 zz.1 zz.2 (V := goV (sV S) p g t) ⟨fun q q0 q1 => ?_, fun q q0 q1 => ?_⟩ (SOK.putV (T := T) (SOK.mono (by omega) (by omega) U.2.1) e (VO.go ⟨by omega, hn.2⟩ hp.2 p0 g0 t0 n0))
  · rw [rd, hv q q0 q1]
    rfl
  · have h2 := hq q q0 q1
    rw [rd, rd, h2.1, h2.2]
    exact ⟨rfl, rfl⟩
theorem m_opWaits {d : Nat} {h : XH} {B m n p w : Int} {S : XSt} (R : Rm h B m S) (O : SOK n S) (n63 : n ≤ 63) : WpM (d + 1) 248 [.inr (.inr m), .inl p, .inl w] h (MAn B m h (.inl (opWaits S p w).1) (opWaits S p w).2) := by
  refine WpM.of rfl (MU.start R O rfl (fun g U => ?_))
  refine Wp.vc 400 [] rfl ?_
  refine U.per rfl (Nat.zero_le _) (fun T e p0 => ?_) (fun hp => ?_)
  · rw [show opWaits S p w = _ from onP_yes e p0]
    obtain ⟨TO, VO⟩ := U.ok e
    have hpm := TO.2.2.2.1
    have vq := VO.2.2.2.2 p p0.1 p0.2
    have v2 : 0 ≤ sV S (12 + p) ∧ sV S (12 + p) ≤ 1000 * n := vq.2
    refine Wp.vc 400 [] rfl ?_
    refine ⟨fun _ => ?_, fun w => absurd (show ¬ (1 : Int) = 0 by decide) w⟩
    refine Wp.callE (j := 0) rfl (Nat.le_of_ble_eq_true rfl) trivial (m_in w 1 999) ?_
    by_cases c : 1 ≤ w ∧ w ≤ 999
    · rw [if_pos c, if_pos c]
      refine Wp.vc 400 [] rfl ?_
      refine ⟨fun _ => ?_, fun w => absurd (show ¬ (1 : Int) = 0 by decide) w⟩
      refine U.remK e rfl (Nat.zero_le _) (fun h3 U3 p3 => ?_)
      have tm3 := U3.tm
      obtain ⟨t2, f81⟩ := U3.v2
      obtain ⟨-, -, -, hq3⟩ := U3.hasT e
      have q8 : xar h3 (m + 2) (8 + p) = sV S (8 + p) := (hq3 p p0.1 p0.2).1
      have q12 : xar h3 (m + 2) (12 + p) = sV S (12 + p) := (hq3 p p0.1 p0.2).2
      have U4 := U3.goK (k := xputa h3 (m + 2) (12 + p) (sV S (12 + p) + w)) (g := sV S (8 + p)) (t := sV S (12 + p) + w) e p0 vq.1 ⟨by omega, by omega⟩ n63 ((XFr.refl h3).puta (Or.inr rfl)) ⟨rfl, rfl⟩ (fun q => by
        rw [xar_puta]
        by_cases c1 : q = 12 + p
        · rw [if_pos ⟨rfl, c1⟩, if_neg (by omega), if_pos c1]
        · rw [if_neg (fun w => c1 w.2), if_neg c1]
          by_cases c2 : q = 8 + p
          · rw [if_pos c2, c2, q8]
          · rw [if_neg c2])
      refine Wp.vc 400 [] rfl ?_
      rw [f81, q12, show xfl (xputa h3 (m + 2) (12 + p) (sV S (12 + p) + w)) m 81 = m + 2 from f81, show xar (xputa h3 (m + 2) (12 + p) (sV S (12 + p) + w)) (m + 2) (12 + p) = sV S (12 + p) + w by rw [xar_puta, if_pos ⟨rfl, rfl⟩]]
      refine ⟨isF tm3 rfl, by omega, isA t2 (by omega) (by omega), by omega, isB t2 (by omega) (by omega), isF tm3 rfl, by omega, isA t2 (by omega) (by omega), ?_⟩
      exact U4.good rfl (fun _ => rfl) rfl
    · rw [if_neg c, if_neg c]
      refine Wp.vc 400 [] rfl ?_
      refine ⟨fun w => absurd rfl w, fun _ => ?_⟩
      exact U.ref (k := 2) rfl (fun _ => rfl) rfl
  · rw [show opWaits S p w = _ from onP_no hp]
    refine Wp.vc 400 [] rfl ?_
    first | refine ⟨fun _ => ?_, fun c => absurd (by decide) c⟩ | refine ⟨fun c => absurd c (by decide), fun _ => ?_⟩
    exact U.ref (k := 1) rfl (fun _ => rfl) rfl
theorem m_opGo {d : Nat} {h : XH} {B m n p g : Int} {S : XSt} (R : Rm h B m S) (O : SOK n S) (n63 : n ≤ 63) : WpM (d + 3) 247 [.inr (.inr m), .inl p, .inl g] h (MAn B m h (.inl (opGo S p g).1) (opGo S p g).2) := by
  refine WpM.of rfl (MU.start R O rfl (fun h1 U => ?_))
  have bad : opGo S p g = sNo S 1 → Wp (d + 3) 247 21 [some (.inr (.inr m)), some (.inl p), some (.inl g), none, none] [] h1 (MAn B m h (.inl (opGo S p g).1) (opGo S p g).2) := by
    intro e
    rw [e]
    refine Wp.vc 400 [122] rfl ?_
    exact U.ref (k := 1) rfl (fun _ => rfl) rfl
  refine Wp.vc 400 [] rfl ?_
  refine U.per rfl (Nat.zero_le _) (fun T e p0 => ?_) (fun hp => ?_)
  · refine Wp.vc 400 [21] rfl ?_
    first | refine ⟨fun _ => ?_, fun c => absurd (by decide) c⟩ | refine ⟨fun c => absurd c (by decide), fun _ => ?_⟩
    refine U.hou rfl (Nat.zero_le _) (fun T' e' g0 => ?_) (fun hp => ?_)
    · rw [e] at e'
      cases e'
      obtain ⟨TO, VO⟩ := U.ok e
      have hpm := TO.2.2.2.1
      have hn := TO.2.2.1
      have vq := VO.2.2.2.2 p p0.1 p0.2
      have n0 : 0 ≤ n := U.2.1.2.2.2.2.2.1
      obtain ⟨ne, TX, hv, hq⟩ := U.hasT e
      have tm := U.tm
      obtain ⟨t2, f81⟩ := U.v2
      have c0 := TX.1.2.2
      have c8 := TX.2.1.2.1.2.2
      have f133 : xfl h1 (xfl h1 m 69) 133 = tsc T 0 := TX.2.2.1.1
      have q8 := (hq p p0.1 p0.2).1
      have q12 := (hq p p0.1 p0.2).2
      have va := hv (sV S (8 + p)) vq.1.1 (by omega)
      have st := TX.2.2.2.2.2.2.2 (sV S (8 + p)) g vq.1.1 (by omega) g0.1 (by omega)
      have rg := TO.2.2.2.2.2.2.1 (sV S (8 + p)) g vq.1.1 (by omega) g0.1 (by omega)
      have zd := TO.2.2.2.2.2.2.2.1
      have dr := TO.1
      have em : (sV S (12 + p)).tmod 1440 = sV S (12 + p) % 1440 := Int.tmod_eq_emod_of_nonneg vq.2.1
      have io := m_isOpenAt (d := d) (mm := sV S (12 + p) % 1440) U.1 U.2.1 e vq.1 (by omega)
      have vo : vOpen T (sV S) (sV S (8 + p)) (sV S (12 + p) % 1440) ↔ vOpen T (sV S) (sV S (8 + p)) (sV S (12 + p)) := by
        unfold vOpen tOpen
        rw [Int.emod_emod_of_dvd (sV S (12 + p)) (Int.dvd_refl 1440)]
      obtain ⟨-, gm0, gm1⟩ := ariv_go (V := sV S) (p := p) TO vq.1 g0
      have vne := VO.1 (sV S (8 + p)) vq.1.1 vq.1.2
      rw [opGo_yes e p0 g0]
      have at112 : ∀ v : Int, v = goM T (sV S) p g → Wp (d + 3) 247 112 [some (.inr (.inr m)), some (.inl p), some (.inl g), some (.inl (sV S (8 + p))), some (.inl v)] [] h1 (MAn B m h (.inl (if goM T (sV S) p g = 0 then sNo S 5 else (sV S (12 + p) + goM T (sV S) p g, sAct S (goV (sV S) p g (sV S (12 + p) + goM T (sV S) p g)))).1) (if goM T (sV S) p g = 0 then sNo S 5 else (sV S (12 + p) + goM T (sV S) p g, sAct S (goV (sV S) p g (sV S (12 + p) + goM T (sV S) p g)))).2) := by
        rintro v hv'
        have bad5 : goM T (sV S) p g = 0 → Wp (d + 3) 247 122 [some (.inr (.inr m)), some (.inl p), some (.inl g), some (.inl (sV S (8 + p))), some (.inl v)] [] h1 (MAn B m h (.inl (if goM T (sV S) p g = 0 then sNo S 5 else (sV S (12 + p) + goM T (sV S) p g, sAct S (goV (sV S) p g (sV S (12 + p) + goM T (sV S) p g)))).1) (if goM T (sV S) p g = 0 then sNo S 5 else (sV S (12 + p) + goM T (sV S) p g, sAct S (goV (sV S) p g (sV S (12 + p) + goM T (sV S) p g)))).2) := by
          intro c
          rw [if_pos c]
          refine Wp.vc 400 [] rfl ?_
          exact U.ref (k := 5) rfl (fun _ => rfl) rfl
        refine Wp.vc 400 [122] rfl ?_
        refine ⟨fun c => bad5 ?_, fun c => ⟨fun c2 => ?_, fun c2 => bad5 (by omega)⟩⟩
        · have : goM T (sV S) p g = tst T (sV S (8 + p)) g := if_neg (fun w => by
            have := w.1.1
            rcases vne with q | q
            · omega
            · exact q.2.2 (this.trans c.symm))
          rw [this, ← c]
          exact zd _ vq.1.1 (by omega)
        · rw [if_neg (by omega)]
          refine U.remK e rfl (Nat.zero_le _) (fun h3 U3 p3 => ?_)
          have tm3 := U3.tm
          obtain ⟨t2, f81⟩ := U3.v2
          obtain ⟨-, -, -, hq3⟩ := U3.hasT e
          have q12' : xar h3 (m + 2) (12 + p) = sV S (12 + p) := (hq3 p p0.1 p0.2).2
          have v2 : 0 ≤ sV S (12 + p) ∧ sV S (12 + p) ≤ 1000 * n := vq.2
          obtain ⟨k, hk⟩ : ∃ k, k = xputa (xputa h3 (m + 2) (8 + p) g) (m + 2) (12 + p) (sV S (12 + p) + v) := ⟨_, rfl⟩
          have U4 := U3.goK (k := k) (g := g) (t := sV S (12 + p) + v) e p0 g0 ⟨by omega, by omega⟩ n63 (by rw [hk]; refine XFr.puta (XFr.puta (XFr.refl _) ?_) ?_ <;> exact Or.inr rfl) (by rw [hk]; exact ⟨rfl, rfl⟩) (fun q => by
            rw [hk, xar_puta]
            by_cases c1 : q = 12 + p
            · rw [if_pos ⟨rfl, c1⟩, if_neg (by omega), if_pos c1]
            · rw [if_neg (fun w => c1 w.2), if_neg c1, xar_puta]
              by_cases c2 : q = 8 + p
              · rw [if_pos ⟨rfl, c2⟩, if_pos c2]
              · rw [if_neg (fun w => c2 w.2), if_neg c2])
          have a12 : xar (xputa h3 (m + 2) (8 + p) g) (m + 2) (12 + p) = sV S (12 + p) := by rw [xar_puta, if_neg (fun w => by omega), q12']
          have fk : xfl k m 81 = m + 2 := by rw [hk]; exact f81
          have ak : xar k (m + 2) (12 + p) = sV S (12 + p) + v := by rw [hk, xar_puta, if_pos ⟨rfl, rfl⟩]
          have tk : xty k (m + 2) = some (true, 0, some 16) := by rw [hk]; exact t2
          have tmk : xty k m = some (true, 9, none) := by rw [hk]; exact tm3
          refine Wp.vc 400 [] rfl ?_
          rw [f81, show xfl (xputa h3 (m + 2) (8 + p) g) m 81 = m + 2 from f81, a12, ← hk, fk, ak]
          refine ⟨isF tm3 rfl, by omega, isB t2 (by omega) (by omega), isF tm3 rfl, by omega, isA t2 (by omega) (by omega), by omega, isB t2 (by omega) (by omega), isF tmk rfl, by omega, isA tk (by omega) (by omega), ?_⟩
          rw [← hv']
          exact U4.good rfl (fun _ => rfl) rfl
      clear TX hv hq
      refine Wp.vc 400 [112] rfl ?_
      rw [f81, q8, st, Int.zero_add, va, q12, em]
      refine ⟨fun _ => ⟨isF tm rfl, by omega, isA t2 (by omega) (by omega), isF tm rfl, isF c0 rfl, by omega, by omega, isA c8 (by omega) (by omega), isF tm rfl, by omega, isA t2 vq.1.1 (by omega), fun c => at112 _ ?_, fun c => ⟨isF tm rfl, by omega, isA t2 (by omega) (by omega), ⟨by decide, Or.inl vq.2.1⟩, ?_⟩⟩, fun w => absurd (show ¬ (1 : Int) = 0 by decide) w⟩
      · exact (if_neg (fun w => c w.1.1)).symm
      · have c : sV S (sV S (8 + p)) = g := Decidable.of_not_not c
        refine Wp.callE (j := 0) rfl (Nat.le_of_ble_eq_true rfl) ⟨true, tm⟩ io ?_
        by_cases c2 : vOpen T (sV S) (sV S (8 + p)) (sV S (12 + p))
        · rw [if_pos (vo.mpr c2)]
          refine Wp.vc 400 [112] rfl ?_
          rw [f133]
          refine ⟨fun w => absurd w (by decide), fun _ => ⟨fun c3 => ⟨isF tm rfl, isF c0 rfl, at112 _ (if_pos ⟨⟨c, c2⟩, Or.inl c3⟩).symm⟩, fun c3 => ⟨isF tm rfl, isF c0 rfl, fun c4 => at112 _ ?_, fun c4 => ⟨isF tm rfl, isF c0 rfl, at112 _ (if_pos ⟨⟨c, c2⟩, Or.inr (Int.not_le.mp c4)⟩).symm⟩⟩⟩⟩
          refine (if_neg (fun w => ?_)).symm
          rcases w.2 with w | w
          · exact c3 w
          · exact absurd c4 (Int.not_le.mpr w)
        · rw [if_neg (fun w => c2 (vo.mp w))]
          refine Wp.vc 400 [112] rfl ?_
          exact ⟨fun _ => at112 _ (if_neg (fun w => c2 w.1.2)).symm, fun w => absurd rfl w⟩
    · refine Wp.vc 400 [21] rfl ?_
      exact ⟨fun w => absurd rfl w, fun _ => bad (opGo_no (fun w => hp w.2))⟩
  · refine Wp.vc 400 [21] rfl ?_
    exact ⟨fun _ => bad (opGo_no (fun w => hp w.1)), fun w => absurd rfl w⟩
