/-! WALKS, 35: size, led -/
set_option maxRecDepth 100000
set_option maxHeartbeats 4000000
def knw (V : Int → Int) (n : Int) : Int := (nds n).foldl (fun s i => s + if V i = -2 then 0 else 1) 0
theorem knw_succ {V : Int → Int} {k : Int} (h : 0 ≤ k) : knw V (k + 1) = knw V k + if V k = -2 then 0 else 1 := by
  unfold knw
  rw [nds_succ h, List.foldl_append]
  rfl
theorem knw_rg {V : Int → Int} : ∀ k : Nat, 0 ≤ knw V k ∧ knw V k ≤ k := by
  intro k
  induction k with
  | zero => exact ⟨Int.le_refl _, Int.le_refl _⟩
  | succ k ih =>
    rw [show ((k + 1 : Nat) : Int) = (k : Int) + 1 by omega, knw_succ (by omega)]
    split <;> omega
def sizeVal (S : XSt) (T : XTw) (w : Int) : Int := if w = 0 then tsc T 0 else if w = 1 then tsc T 1 else if w = 2 then tsc T 2 else if w = 3 then knw (sV S) (tnh T) else if w = 4 then tsc T 3 else if w = 5 then tsc T 4 else if w = 6 then tsc T 5 else if w = 7 then tsc T 6 else if w = 8 then tsc T 7 else if w = 9 then xones (sV S 7) else if w = 10 then ((sU S).length : Int) else ((sM S).length : Int)
def opSize (S : XSt) (w : Int) : Int × XSt := (if w = 12 then ((sTp S).length : Int) else if 0 ≤ w ∧ w ≤ 11 then (match sT S with
  | none => 0
  | some T => sizeVal S T w) else -1, S)
theorem x_known {d : Nat} {h : XH} {B s n : Int} {S : XSt} {T : XTw} (R : Rx h B s S) (O : SOK n S) (e : sT S = some T) : WpM d 70 [.inr (.inr s)] h (XE (some (.inl (knw (sV S) (tnh T)))) h) := by
  obtain ⟨RT, hv, ne, TX, SN⟩ := R.rooms O e
  have TO := (O.1 T e).1
  have hn := TO.2.2.1
  have ts := R.2.1.2.1
  have f9 : xfl h s 9 = s + 5 := R.2.1.2.2.2.2.1.1
  have ct := TX.1.2.2
  have e111 : xfl h (xfl h s 3) 111 = tnh T := TX.2.2.1.2.2.1
  have f40 := RT.1.2.2.2.2.2.1
  have tR := RT.1.2.1
  have tW := RT.1.2.2.1
  clear TX TO SN R O
  refine WpM.of rfl (Wp.vc 400 [4] rfl ?_)
  have key : ∀ (k : Int) (g : XH), k ≤ tnh T → (0 ≤ k ∧ g = h) → Wp d 70 4 [some (.inr (.inr s)), some (.inl (knw (sV S) k)), some (.inl k)] [] g (XE (some (.inl (knw (sV S) (tnh T)))) h) := by
    refine loopUp (G := fun k g => Wp d 70 4 [some (.inr (.inr s)), some (.inl (knw (sV S) k)), some (.inl k)] [] g (XE (some (.inl (knw (sV S) (tnh T)))) h)) (tnh T) ?_ ?_
    · rintro k g ⟨k0, rfl⟩ hk ih
      have ih := ih g ⟨by omega, rfl⟩
      rw [knw_succ k0] at ih
      have rg := knw_rg (V := sV S) k.toNat
      rw [show ((k.toNat : Nat) : Int) = k by omega] at rg
      refine Wp.vc 400 [4] rfl ?_
      rw [e111, f9, f40, hv k k0 hk]
      refine ⟨isF ts rfl, isF ct rfl, fun w => absurd w (by omega), fun _ => ⟨isF ts rfl, isF tR rfl, isA tW k0 (by omega), fun c => ?_, fun c => ?_⟩⟩
      · rw [if_pos c] at ih
        exact ⟨by omega, by omega, ih⟩
      · rw [if_neg c] at ih
        exact ⟨by omega, by omega, ih⟩
    · rintro g ⟨k0, rfl⟩
      refine Wp.vc 400 [4] rfl ?_
      rw [e111]
      exact ⟨isF ts rfl, isF ct rfl, fun _ => ⟨trivial, rfl, rfl⟩, fun w => absurd (Int.le_refl _) w⟩
  exact key 0 h (by omega) ⟨Int.le_refl _, rfl⟩
theorem m_known {d : Nat} {h0 h : XH} {B m n : Int} {S : XSt} {T : XTw} (U : MU B m n h0 h S) (e : sT S = some T) : WpM d 254 [.inr (.inr m)] h (XE (some (.inl (knw (sV S) (tnh T)))) h) := by
  obtain ⟨ne, TX, hv, -⟩ := U.hasT e
  have TO := (U.ok e).1
  have hn := TO.2.2.1
  have tm := U.tm
  obtain ⟨t2, f2⟩ := U.v2
  have ct := TX.1.2.2
  have e135 : xfl h (xfl h m 69) 135 = tnh T := TX.2.2.1.2.2.1
  clear TX TO U
  refine WpM.of rfl (Wp.vc 400 [4] rfl ?_)
  have key : ∀ (k : Int) (g : XH), k ≤ tnh T → (0 ≤ k ∧ g = h) → Wp d 254 4 [some (.inr (.inr m)), some (.inl (knw (sV S) k)), some (.inl k)] [] g (XE (some (.inl (knw (sV S) (tnh T)))) h) := by
    refine loopUp (G := fun k g => Wp d 254 4 [some (.inr (.inr m)), some (.inl (knw (sV S) k)), some (.inl k)] [] g (XE (some (.inl (knw (sV S) (tnh T)))) h)) (tnh T) ?_ ?_
    · rintro k g ⟨k0, rfl⟩ hk ih
      have ih := ih g ⟨by omega, rfl⟩
      rw [knw_succ k0] at ih
      have rg := knw_rg (V := sV S) k.toNat
      rw [show ((k.toNat : Nat) : Int) = k by omega] at rg
      refine Wp.vc 400 [4] rfl ?_
      rw [e135, f2, Int.zero_add, hv k k0 (by omega)]
      refine ⟨isF tm rfl, isF ct rfl, fun w => absurd w (by omega), fun _ => ⟨isF tm rfl, ⟨by omega, by omega⟩, isA t2 k0 (by omega), fun c => ?_, fun c => ?_⟩⟩
      · rw [if_neg c] at ih
        exact ⟨by omega, by omega, ih⟩
      · rw [if_pos (Decidable.of_not_not c)] at ih
        exact ⟨by omega, by omega, ih⟩
    · rintro g ⟨k0, rfl⟩
      refine Wp.vc 400 [4] rfl ?_
      rw [e135]
      exact ⟨isF tm rfl, isF ct rfl, fun _ => ⟨trivial, rfl, rfl⟩, fun w => absurd (Int.le_refl _) w⟩
  exact key 0 h (by omega) ⟨Int.le_refl _, rfl⟩
theorem opSize_12 {S : XSt} : opSize S 12 = (((sTp S).length : Int), S) := rfl
theorem opSize_no {S : XSt} {w : Int} (n12 : w ≠ 12) (h : ¬ (0 ≤ w ∧ w ≤ 11)) : opSize S w = (-1, S) := by
  unfold opSize
  rw [if_neg n12, if_neg h]
theorem opSize_0 {S : XSt} {w : Int} (h : 0 ≤ w ∧ w ≤ 11) (e : sT S = none) : opSize S w = (0, S) := by
  unfold opSize
  rw [if_neg (by omega), if_pos h, e]
theorem opSize_T {S : XSt} {w : Int} {T : XTw} (h : 0 ≤ w ∧ w ≤ 11) (e : sT S = some T) : opSize S w = (sizeVal S T w, S) := by
  unfold opSize
  rw [if_neg (by omega), if_pos h, e]
theorem x_opSize {d : Nat} {h : XH} {B s n w : Int} {S : XSt} (R : Rx h B s S) (O : SOK n S) : WpM (d + 1) 69 [.inr (.inr s), .inl w] h (XAn B s h (.inl (opSize S w).1) (opSize S w).2) := by
  have ts := R.2.1.2.1
  have ret : ∀ v : Int, XAn B s h (.inl v) S (.inl (some (.inl v))) h := fun v => XAns.mk R (XFr.refl h) rfl rfl
  by_cases w12 : w = 12
  · subst w12
    rw [opSize_12]
    have e1 := R.2.2.1.1
    refine WpM.of rfl (Wp.vc 400 [11] rfl ?_)
    rw [e1]
    exact ⟨fun c => absurd rfl c, fun _ => ⟨isF ts rfl, trivial, ret _⟩⟩
  · cases e : sT S with
    | none =>
      have e3 := R.noT e
      refine WpM.of rfl (Wp.vc 400 [34] rfl ?_)
      rw [e3]
      refine ⟨fun _ => ⟨isF ts rfl, fun c => absurd rfl c, fun _ => ?_⟩, fun c => absurd w12 c⟩
      refine Wp.callE (j := 0) rfl (Nat.le_of_ble_eq_true rfl) trivial (x_in w 0 11) ?_
      by_cases c : 0 ≤ w ∧ w ≤ 11
      · rw [if_pos c, opSize_0 c e]
        refine Wp.vc 400 [34] rfl ?_
        exact ⟨fun w => absurd w (by decide), fun _ => ⟨trivial, ret _⟩⟩
      · rw [if_neg c, opSize_no w12 c]
        refine Wp.vc 400 [34] rfl ?_
        exact ⟨fun _ => ⟨trivial, ret _⟩, fun w => absurd rfl w⟩
    | some T =>
      obtain ⟨RT, hv, ne, TX, SN⟩ := R.rooms O e
      have kn := x_known (d := d) R O e
      have VO := (O.1 T e).2.1
      have ct := TX.1.2.2
      have sc := TX.2.2.1
      have f9 : xfl h s 9 = s + 5 := R.2.1.2.2.2.2.1.1
      have f44 := SN.2.2.1
      have f78 := R.2.2.2.2.1
      have tR := RT.1.2.1
      have h7 := VO.2.2.2.1
      have on := x_ones (d := d) (h := h) (sV S 7) ⟨h7.1, h7.2.1⟩
      clear TX SN RT hv VO
      refine WpM.of rfl (Wp.vc 400 [35] rfl ?_)
      refine ⟨fun _ => ⟨isF ts rfl, fun _ => ?_, fun c => absurd ne c⟩, fun c => absurd w12 c⟩
      by_cases c : 0 ≤ w ∧ w ≤ 11
      · rw [opSize_T c e]
        have hc : w = 0 ∨ w = 1 ∨ w = 2 ∨ w = 3 ∨ w = 4 ∨ w = 5 ∨ w = 6 ∨ w = 7 ∨ w = 8 ∨ w = 9 ∨ w = 10 ∨ w = 11 := by omega
        rcases hc with rfl | rfl | rfl | rfl | rfl | rfl | rfl | rfl | rfl | rfl | rfl | rfl
        · refine Wp.vc 400 [] rfl ?_
          rw [sc.1]
          exact ⟨isF ts rfl, isF ct rfl, trivial, ret _⟩
        · refine Wp.vc 400 [] rfl ?_
          rw [sc.2.1]
          exact ⟨isF ts rfl, isF ct rfl, trivial, ret _⟩
        · refine Wp.vc 400 [] rfl ?_
          rw [sc.2.2.1]
          exact ⟨isF ts rfl, isF ct rfl, trivial, ret _⟩
        · refine Wp.vc 400 [] rfl ?_
          refine Wp.callE (j := 0) rfl (Nat.le_of_ble_eq_true rfl) ⟨true, ts⟩ kn ?_
          refine Wp.vc 400 [] rfl ?_
          exact ⟨trivial, ret _⟩
        · refine Wp.vc 400 [] rfl ?_
          rw [sc.2.2.2.1]
          exact ⟨isF ts rfl, isF ct rfl, trivial, ret _⟩
        · refine Wp.vc 400 [] rfl ?_
          rw [sc.2.2.2.2.1]
          exact ⟨isF ts rfl, isF ct rfl, trivial, ret _⟩
        · refine Wp.vc 400 [] rfl ?_
          rw [sc.2.2.2.2.2.1]
          exact ⟨isF ts rfl, isF ct rfl, trivial, ret _⟩
        · refine Wp.vc 400 [] rfl ?_
          rw [sc.2.2.2.2.2.2.1]
          exact ⟨isF ts rfl, isF ct rfl, trivial, ret _⟩
        · refine Wp.vc 400 [] rfl ?_
          rw [sc.2.2.2.2.2.2.2]
          exact ⟨isF ts rfl, isF ct rfl, trivial, ret _⟩
        · refine Wp.vc 400 [] rfl ?_
          rw [f9, f44]
          refine ⟨isF ts rfl, isF tR rfl, ?_⟩
          refine Wp.callE (j := 0) rfl (Nat.le_of_ble_eq_true rfl) trivial on ?_
          refine Wp.vc 400 [] rfl ?_
          exact ⟨trivial, ret _⟩
        · refine Wp.vc 400 [] rfl ?_
          rw [f78.2]
          exact ⟨isF ts rfl, trivial, ret _⟩
        · refine Wp.vc 400 [] rfl ?_
          rw [f78.1]
          exact ⟨isF ts rfl, trivial, ret _⟩
      · rw [opSize_no w12 c]
        refine Wp.sw rfl (t := 186) ?_ ?_
        · simp only [xsw]
          rw [if_neg (by omega), if_neg (by omega), if_neg (by omega), if_neg (by omega), if_neg (by omega), if_neg (by omega), if_neg (by omega), if_neg (by omega), if_neg (by omega), if_neg (by omega), if_neg (by omega), if_neg (by omega)]
        · refine Wp.vc 400 [] rfl ?_
          exact ⟨trivial, ret _⟩
theorem m_opSize {d : Nat} {h : XH} {B m n w : Int} {S : XSt} (R : Rm h B m S) (O : SOK n S) : WpM (d + 1) 253 [.inr (.inr m), .inl w] h (MAn B m h (.inl (opSize S w).1) (opSize S w).2) := by
  refine WpM.of rfl (MU.start R O rfl (fun g U => ?_))
  have tm := U.tm
  have ret : ∀ v : Int, MAn B m h (.inl v) S (.inl (some (.inl v))) g := fun v => U.ret
  by_cases w12 : w = 12
  · subst w12
    rw [opSize_12]
    have e1 := U.1.2.2.1.1
    refine Wp.vc 400 [16] rfl ?_
    rw [e1]
    exact ⟨fun c => absurd rfl c, fun _ => ⟨isF tm rfl, trivial, ret _⟩⟩
  · refine Wp.vc 400 [] rfl ?_
    refine ⟨fun _ => ?_, fun c => absurd w12 c⟩
    refine Wp.callE (j := 0) rfl (Nat.le_of_ble_eq_true rfl) trivial (m_in w 0 11) ?_
    by_cases c : 0 ≤ w ∧ w ≤ 11
    · rw [if_pos c]
      cases e : sT S with
      | none =>
        rw [opSize_0 c e]
        have e3 := U.noT e
        refine Wp.vc 400 [37] rfl ?_
        rw [e3]
        exact ⟨fun _ => ⟨isF tm rfl, fun c => absurd rfl c, fun _ => ⟨trivial, ret _⟩⟩, fun w => absurd (show ¬ (1 : Int) = 0 by decide) w⟩
      | some T =>
        rw [opSize_T c e]
        obtain ⟨ne, TX, hv, -⟩ := U.hasT e
        have kn := m_known (d := d) U e
        have VO := (U.ok e).2
        have ct := TX.1.2.2
        have sc := TX.2.2.1
        obtain ⟨t2, f2⟩ := U.v2
        have v7 := hv 7 (by decide) (by decide)
        have f45 := U.1.2.2.2.2.1
        have h7 := VO.2.2.2.1
        have on := m_bits (d := d) (h := g) (sV S 7) ⟨h7.1, h7.2.1⟩
        clear TX hv VO
        refine Wp.vc 400 [38] rfl ?_
        refine ⟨fun _ => ⟨isF tm rfl, fun _ => ?_, fun c => absurd ne c⟩, fun w => absurd (show ¬ (1 : Int) = 0 by decide) w⟩
        have hc : w = 0 ∨ w = 1 ∨ w = 2 ∨ w = 3 ∨ w = 4 ∨ w = 5 ∨ w = 6 ∨ w = 7 ∨ w = 8 ∨ w = 9 ∨ w = 10 ∨ w = 11 := by omega
        rcases hc with rfl | rfl | rfl | rfl | rfl | rfl | rfl | rfl | rfl | rfl | rfl | rfl
        · refine Wp.vc 400 [] rfl ?_
          rw [sc.1]
          exact ⟨isF tm rfl, isF ct rfl, trivial, ret _⟩
        · refine Wp.vc 400 [] rfl ?_
          rw [sc.2.1]
          exact ⟨isF tm rfl, isF ct rfl, trivial, ret _⟩
        · refine Wp.vc 400 [] rfl ?_
          rw [sc.2.2.1]
          exact ⟨isF tm rfl, isF ct rfl, trivial, ret _⟩
        · refine Wp.vc 400 [] rfl ?_
          refine Wp.callE (j := 0) rfl (Nat.le_of_ble_eq_true rfl) ⟨true, tm⟩ kn ?_
          refine Wp.vc 400 [] rfl ?_
          exact ⟨trivial, ret _⟩
        · refine Wp.vc 400 [] rfl ?_
          rw [sc.2.2.2.1]
          exact ⟨isF tm rfl, isF ct rfl, trivial, ret _⟩
        · refine Wp.vc 400 [] rfl ?_
          rw [sc.2.2.2.2.1]
          exact ⟨isF tm rfl, isF ct rfl, trivial, ret _⟩
        · refine Wp.vc 400 [] rfl ?_
          rw [sc.2.2.2.2.2.1]
          exact ⟨isF tm rfl, isF ct rfl, trivial, ret _⟩
        · refine Wp.vc 400 [] rfl ?_
          rw [sc.2.2.2.2.2.2.1]
          exact ⟨isF tm rfl, isF ct rfl, trivial, ret _⟩
        · refine Wp.vc 400 [] rfl ?_
          rw [sc.2.2.2.2.2.2.2]
          exact ⟨isF tm rfl, isF ct rfl, trivial, ret _⟩
        · refine Wp.vc 400 [] rfl ?_
          rw [f2, v7]
          refine ⟨isF tm rfl, isA t2 (by decide) (by decide), ?_⟩
          refine Wp.callE (j := 0) rfl (Nat.le_of_ble_eq_true rfl) trivial on ?_
          refine Wp.vc 400 [] rfl ?_
          exact ⟨trivial, ret _⟩
        · refine Wp.vc 400 [] rfl ?_
          rw [f45.2]
          exact ⟨isF tm rfl, trivial, ret _⟩
        · refine Wp.vc 400 [] rfl ?_
          rw [f45.1]
          exact ⟨isF tm rfl, trivial, ret _⟩
    · rw [if_neg c, opSize_no w12 c]
      refine Wp.vc 400 [37] rfl ?_
      exact ⟨fun w => absurd rfl w, fun _ => ⟨trivial, ret _⟩⟩
/-- who is at home: the i-th -/
def ledl (T : XTw) (V : Int → Int) (i : Int) : Nat → Int → Int → Option Int
  | 0, _, _ => none
  | f + 1, p, n => if V (8 + p) = thv T 7 p then (if n = i then some p else ledl T V i f (p + 1) (n + 1)) else ledl T V i f (p + 1) n
def ledv (S : XSt) (i : Int) : Option Int := match sT S with
  | none => none
  | some T => ledl T (sV S) i (tpm T).toNat 0 0
theorem ledl_st {T : XTw} {V : Int → Int} {i k p n : Int} (h : p < k) : ledl T V i (k - p).toNat p n = if V (8 + p) = thv T 7 p then (if n = i then some p else ledl T V i (k - (p + 1)).toNat (p + 1) (n + 1)) else ledl T V i (k - (p + 1)).toNat (p + 1) n := by
  rw [show (k - p).toNat = (k - (p + 1)).toNat + 1 by omega]
  rfl
/-- led's end: the person, or the exception -/
def LedE (h : XH) (o : Option Int) : XO → XH → Prop := fun r h' => match o with
  | some p => r = .inl (some (.inl p)) ∧ h' = h
  | none => r = .inr (xsz h) ∧ h' = xnewo h 17 6
theorem x_led72 {d : Nat} {h : XH} {B s n i : Int} {S : XSt} (R : Rx h B s S) (O : SOK n S) : WpM d 72 [.inr (.inr s), .inl i] h (LedE h (ledv S i)) := by
  have ts := R.2.1.2.1
  have thr : ∀ ls, Wp d 72 65 ls [] h (LedE h none) := by
    intro ls
    refine Wp.vc 400 [] rfl ?_
    exact Wp.throw (c := 17) rfl (by rw [xty_newo, if_pos rfl]) (fun q hq => by cases hq) ⟨rfl, rfl⟩
  unfold ledv
  cases e : sT S with
  | none =>
    have e3 := R.noT e
    refine WpM.of rfl (Wp.vc 400 [65, 11] rfl ?_)
    rw [e3]
    exact ⟨isF ts rfl, fun _ => thr _, fun w => absurd rfl w⟩
  | some T =>
    obtain ⟨RT, hv, ne, TX, SN⟩ := R.rooms O e
    have TO := (O.1 T e).1
    have hp := TO.2.2.2.1
    have ct := TX.1.2.2
    have cp := TX.2.1.2.1.2.2
    have e114 : xfl h (xfl h s 3) 114 = tpm T := TX.2.2.1.2.2.2.2.2.1
    have PX := TX.2.2.2.2.1
    have f9 : xfl h s 9 = s + 5 := R.2.1.2.2.2.2.1.1
    have f41 := RT.1.2.2.2.2.2.2.1
    have tR := RT.1.2.1
    have tA := RT.1.2.2.2.1
    have s4 := SN.2.2.2
    clear TX SN RT TO R O
    refine WpM.of rfl (Wp.vc 400 [4] rfl ?_)
    have key : ∀ (p : Int) (g : XH), p ≤ tpm T → (0 ≤ p ∧ g = h) → ∀ m : Int, 0 ≤ m → m ≤ p → Wp d 72 4 [some (.inr (.inr s)), some (.inl i), some (.inl m), some (.inl p)] [] g (LedE h (ledl T (sV S) i (tpm T - p).toNat p m)) := by
      refine loopUp (G := fun p g => ∀ m : Int, 0 ≤ m → m ≤ p → Wp d 72 4 [some (.inr (.inr s)), some (.inl i), some (.inl m), some (.inl p)] [] g (LedE h (ledl T (sV S) i (tpm T - p).toNat p m))) (tpm T) ?_ ?_
      · rintro p g ⟨p0, rfl⟩ hk ih m m0 m1
        have ih := ih g ⟨by omega, rfl⟩
        have PX := PX p p0 hk
        have ca := PX.1.2.2
        have q1 := (s4 p p0 hk).1
        have q2 := PX.2.1
        rw [ledl_st hk]
        refine Wp.vc 400 [4, 65] rfl ?_
        rw [e114, f9, f41, q1, q2]
        refine ⟨isF ts rfl, fun w => absurd w ne, fun _ => ⟨isF ts rfl, isF ct rfl, fun w => absurd w (by omega), fun _ => ⟨isF ts rfl, isF tR rfl, isA tA p0 (by omega), isF ts rfl, isF ct rfl, isR cp (by decide) p0 (by omega), isF ca rfl, fun c => ⟨fun c2 => ⟨by omega, by omega, ?_⟩, fun c2 => ⟨trivial, ?_⟩⟩, fun c => ⟨by omega, ?_⟩⟩⟩⟩
        · rw [if_pos c, if_neg c2]
          exact ih (m + 1) (by omega) (by omega)
        · rw [if_pos c, if_pos (Decidable.of_not_not c2)]
          exact ⟨rfl, rfl⟩
        · rw [if_neg c]
          exact ih m m0 (by omega)
      · rintro g ⟨p0, rfl⟩ m m0 m1
        rw [show (tpm T - tpm T).toNat = 0 by omega]
        refine Wp.vc 400 [4, 65, 22] rfl ?_
        rw [e114]
        exact ⟨isF ts rfl, fun w => absurd w ne, fun _ => ⟨isF ts rfl, isF ct rfl, fun _ => thr _, fun w => absurd (Int.le_refl _) w⟩⟩
    have := key 0 h (by omega) ⟨Int.le_refl _, rfl⟩ 0 (Int.le_refl _) (Int.le_refl _)
    rw [Int.sub_zero] at this
    exact this
/-- the law's led -/
def LedW (h : XH) (a : Int) (o : Option Int) : XO → XH → Prop := fun r h' => match o with
  | some p => r = .inl (some (.inl 0)) ∧ h' = xputa h a 0 p
  | none => r = .inl (some (.inl 1)) ∧ h' = xnewo h 17 6
theorem x_led0 {d : Nat} {h : XH} {B s n i a : Int} {S : XSt} (R : Rx h B s S) (O : SOK n S) (ta : xty h a = some (true, 3, some 1)) : WpM (d + 1) 0 [.inr (.inr s), .inl i, .inr (.inr a)] h (LedW h a (ledv S i)) := by
  have ts := R.2.1.2.1
  have ld := x_led72 (d := d) (i := i) R O
  refine WpM.of rfl (Wp.vc 400 [] rfl ?_)
  cases e : ledv S i with
  | none =>
    rw [e] at ld
    refine Wp.callX (j := 0) rfl (Nat.le_of_ble_eq_true rfl) ⟨true, ts⟩ ld (fun v h1 q => by cases q.1) (fun q h1 hq => ?_)
    obtain ⟨q1, q2⟩ := hq
    cases q1
    subst q2
    refine ⟨17, by rw [xty_newo, if_pos rfl], Or.inr ⟨12, ⟨(0, 9, 12, 17), by decide, by decide, by decide, rfl, rfl⟩, ?_⟩⟩
    refine Wp.vc 400 [] rfl ?_
    exact ⟨trivial, rfl, rfl⟩
  | some p =>
    rw [e] at ld
    refine Wp.callX (j := 0) rfl (Nat.le_of_ble_eq_true rfl) ⟨true, ts⟩ ld (fun v h1 q => ?_) (fun q h1 hq => by cases hq.1)
    obtain ⟨q1, q2⟩ := q
    cases q1
    subst q2
    refine Wp.vc 400 [] rfl ?_
    exact ⟨isB ta (by decide) (by decide), trivial, rfl, rfl⟩
theorem m_led {d : Nat} {h : XH} {B m n i : Int} {S : XSt} (R : Rm h B m S) (O : SOK n S) : WpM d 252 [.inr (.inr m), .inl i] h (XRet fun v h' => v = some (.inl ((ledv S i).getD 0)) ∧ Rm h' B m S ∧ XFr (MW m) (MA m) h h' ∧ xsz h' = xsz h ∧ xsl h' = xsl h ∧ xfl h' m 66 = if (ledv S i).isSome = true then 0 else 1) := by
  refine WpM.of rfl ?_
  have f0 : xfl (xputf h m 66 0) m 66 = 0 := by rw [xfl_putf, if_pos ⟨rfl, rfl⟩]
  obtain ⟨R0, p0, tm⟩ := R.begin
  refine Wp.run 3 rfl ⟨trivial, isW tm rfl⟩ ?_
  have z0 : xsz (xputf h m 66 0) = xsz h ∧ xsl (xputf h m 66 0) = xsl h := ⟨rfl, rfl⟩
  obtain ⟨g, hg⟩ : ∃ g, g = xputf h m 66 0 := ⟨_, rfl⟩
  rw [← hg] at R0 p0 f0 z0 ⊢
  clear hg R tm
  have U : MU B m n h g S := ⟨R0, O, p0, z0.1, z0.2⟩
  have tm := U.tm
  have U1 : MU B m n h (xputf g m 66 1) S := U.scr ((XFr.refl g).putf (Or.inr ⟨rfl, Or.inl rfl⟩)) rfl rfl
  have f1 : xfl (xputf g m 66 1) m 66 = 1 := by rw [xfl_putf, if_pos ⟨rfl, rfl⟩]
  have thr : ∀ ls, Wp d 252 67 (some (.inr (.inr m)) :: ls) [] g (XRet fun v h' => v = some (.inl ((none : Option Int).getD 0)) ∧ Rm h' B m S ∧ XFr (MW m) (MA m) h h' ∧ xsz h' = xsz h ∧ xsl h' = xsl h ∧ xfl h' m 66 = if (none : Option Int).isSome = true then 0 else 1) := by
    intro ls
    refine Wp.vc 400 [] rfl ?_
    exact ⟨isW tm rfl, trivial, _, rfl, rfl, U1.1, U1.2.2.1, U1.2.2.2.1, U1.2.2.2.2, f1⟩
  unfold ledv
  cases e : sT S with
  | none =>
    have e3 := U.noT e
    refine Wp.vc 400 [67, 16] rfl ?_
    rw [e3]
    exact ⟨isF tm rfl, fun _ => thr _, fun w => absurd rfl w⟩
  | some T =>
    obtain ⟨ne, TX, -, hq⟩ := U.hasT e
    have TO := (U.ok e).1
    have hp := TO.2.2.2.1
    have ct := TX.1.2.2
    have c7 := TX.2.1.2.2.1.2.2
    have e139 : xfl g (xfl g m 69) 139 = tpm T := TX.2.2.1.2.2.2.2.2.1
    have v7 := TX.2.2.2.2.1
    obtain ⟨t2, f2⟩ := U.v2
    clear TX TO
    refine Wp.vc 400 [9] rfl ?_
    have key : ∀ (p : Int) (g' : XH), p ≤ tpm T → (0 ≤ p ∧ g' = g) → ∀ k : Int, 0 ≤ k → k ≤ p → Wp d 252 9 [some (.inr (.inr m)), some (.inl i), some (.inl k), some (.inl p)] [] g' (XRet fun v h' => v = some (.inl ((ledl T (sV S) i (tpm T - p).toNat p k).getD 0)) ∧ Rm h' B m S ∧ XFr (MW m) (MA m) h h' ∧ xsz h' = xsz h ∧ xsl h' = xsl h ∧ xfl h' m 66 = if (ledl T (sV S) i (tpm T - p).toNat p k).isSome = true then 0 else 1) := by
      refine loopUp (G := fun p g' => ∀ k : Int, 0 ≤ k → k ≤ p → Wp d 252 9 [some (.inr (.inr m)), some (.inl i), some (.inl k), some (.inl p)] [] g' (XRet fun v h' => v = some (.inl ((ledl T (sV S) i (tpm T - p).toNat p k).getD 0)) ∧ Rm h' B m S ∧ XFr (MW m) (MA m) h h' ∧ xsz h' = xsz h ∧ xsl h' = xsl h ∧ xfl h' m 66 = if (ledl T (sV S) i (tpm T - p).toNat p k).isSome = true then 0 else 1)) (tpm T) ?_ ?_
      · rintro p g' ⟨pz, rfl⟩ hk ih k k0 k1
        have ih := ih g' ⟨by omega, rfl⟩
        have q1 := (hq p pz hk).1
        have q2 := (v7 p pz hk).1
        rw [ledl_st hk]
        refine Wp.vc 400 [9, 67] rfl ?_
        rw [e139, f2, q1, q2]
        refine ⟨isF tm rfl, fun w => absurd w ne, fun _ => ⟨isF tm rfl, isF ct rfl, fun w => absurd w (by omega), fun _ => ⟨isF tm rfl, ⟨by omega, by omega⟩, isA t2 (by omega) (by omega), isF tm rfl, isF ct rfl, isA c7 pz (by omega), fun c => ⟨fun c2 => ⟨by omega, by omega, ?_⟩, fun c2 => ⟨trivial, ?_⟩⟩, fun c => ⟨by omega, ?_⟩⟩⟩⟩
        · rw [if_pos c, if_neg c2]
          exact ih (k + 1) (by omega) (by omega)
        · rw [if_pos c, if_pos (Decidable.of_not_not c2)]
          exact ⟨_, rfl, rfl, U.1, U.2.2.1, U.2.2.2.1, U.2.2.2.2, f0⟩
        · rw [if_neg c]
          exact ih k k0 (by omega)
      · rintro g' ⟨p0, rfl⟩ k k0 k1
        rw [show (tpm T - tpm T).toNat = 0 by omega]
        refine Wp.vc 400 [9, 67, 27] rfl ?_
        rw [e139]
        exact ⟨isF tm rfl, fun w => absurd w ne, fun _ => ⟨isF tm rfl, isF ct rfl, fun _ => thr _, fun w => absurd (Int.le_refl _) w⟩⟩
    have := key 0 g (by omega) ⟨Int.le_refl _, rfl⟩ 0 (Int.le_refl _) (Int.le_refl _)
    rw [Int.sub_zero] at this
    exact this
