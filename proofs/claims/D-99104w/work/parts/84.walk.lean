/-! WALKS, 25: the ops of ways, WrongRoom -/
set_option maxRecDepth 100000
set_option maxHeartbeats 4000000
noncomputable def wwhy (p : Prop) (m : Int) : Int := @ite Int p (Classical.propDecidable p) (if 0 ≤ m ∧ m ≤ 1439 then 0 else 2) 1
theorem x_wayWhy {d : Nat} {h : XH} {B s i j m n : Int} {S : XSt} (R : Rx h B s S) (O : SOK n S) : WpM (d + 2) 24 [.inr (.inr s), .inl i, .inl j, .inl m] h (XE (some (.inl (wwhy (isHou S i ∧ isHou S j) m))) h) := by
  have ts := R.2.1.2.1
  have fin : ∀ p : Prop, p = (isHou S i ∧ isHou S j) → Wp (d + 2) 24 22 [some (.inr (.inr s)), some (.inl i), some (.inl j), some (.inl m)] [.inl (xb p), .inr (.inr s)] h (XE (some (.inl (wwhy (isHou S i ∧ isHou S j) m))) h) := by
    rintro p rfl
    refine Wp.vc 400 [] rfl ?_
    refine Wp.callE (j := 0) rfl (Nat.le_of_ble_eq_true rfl) ⟨true, ts⟩ (x_minuteWhy R _) ?_
    refine Wp.vc 400 [] rfl ?_
    exact ⟨trivial, rfl, rfl⟩
  refine WpM.of rfl (Wp.vc 400 [22] rfl ?_)
  refine Wp.callE (j := 0) rfl (Nat.le_of_ble_eq_true rfl) ⟨true, ts⟩ (x_isHouse R O) ?_
  by_cases hi : isHou S i
  · rw [xb_pos hi]
    refine Wp.vc 400 [22] rfl ?_
    refine ⟨fun w => absurd w (by decide), fun _ => ?_⟩
    refine Wp.callE (j := 0) rfl (Nat.le_of_ble_eq_true rfl) ⟨true, ts⟩ (x_isHouse R O) ?_
    by_cases hj : isHou S j
    · have := fin (isHou S i ∧ isHou S j) rfl
      rw [xb_pos ⟨hi, hj⟩] at this
      rw [xb_pos hj]
      refine Wp.vc 400 [22] rfl ?_
      exact ⟨fun w => absurd w (by decide), fun _ => this⟩
    · have := fin (isHou S i ∧ isHou S j) rfl
      rw [xb_neg (fun w => hj w.2)] at this
      rw [xb_neg hj]
      refine Wp.vc 400 [22] rfl ?_
      exact ⟨fun _ => this, fun w => absurd rfl w⟩
  · have := fin (isHou S i ∧ isHou S j) rfl
    rw [xb_neg (fun w => hi w.1)] at this
    rw [xb_neg hi]
    refine Wp.vc 400 [22] rfl ?_
    exact ⟨fun _ => this, fun w => absurd rfl w⟩
theorem wwhy_1 {p : Prop} {m : Int} (h : ¬ p) : wwhy p m = 1 := if_neg h
theorem wwhy_2 {p : Prop} {m : Int} (h : p) (hm : ¬ (0 ≤ m ∧ m ≤ 1439)) : wwhy p m = 2 := (if_pos h).trans (if_neg hm)
theorem wwhy_0 {p : Prop} {m : Int} (h : p) (hm : 0 ≤ m ∧ m ≤ 1439) : wwhy p m = 0 := (if_pos h).trans (if_pos hm)
theorem XU.whyK {d M pc np : Nat} {ls : XL} {st rest : XS} {B s n i j m : Int} {h0 h : XH} {S : XSt} {Q : XO → XH → Prop} (U : XU B s n h0 h S) (e : xstK M pc 0 st = some (np, some 0, 24, [.inr (.inr s), .inl i, .inl j, .inl m], rest)) (hw : xwords rest ≤ 8) (k0 : ∀ T, sT S = some T → (0 ≤ i ∧ i < tnh T) → (0 ≤ j ∧ j < tnh T) → (0 ≤ m ∧ m ≤ 1439) → Wp (d + 3) M np ls (.inl 0 :: rest) h Q) (k1 : ¬ (isHou S i ∧ isHou S j) → Wp (d + 3) M np ls (.inl 1 :: rest) h Q) (k2 : isHou S i → isHou S j → ¬ (0 ≤ m ∧ m ≤ 1439) → Wp (d + 3) M np ls (.inl 2 :: rest) h Q) : Wp (d + 3) M pc ls st h Q := by
  refine Wp.callE e hw ⟨true, U.ts⟩ (x_wayWhy U.1 U.2.1) ?_
  by_cases hp : isHou S i ∧ isHou S j
  · by_cases hm : 0 ≤ m ∧ m ≤ 1439
    · rw [wwhy_0 hp hm]
      obtain ⟨⟨T, e, i0⟩, T', e', j0⟩ := hp
      rw [e] at e'
      cases e'
      exact k0 T e i0 j0 hm
    · rw [wwhy_2 hp hm]
      exact k2 hp.1 hp.2 hm
  · rw [wwhy_1 hp]
    exact k1 hp
/-- an op of two houses and a minute -/
def onW (S : XSt) (i j m : Int) (f : XTw → Int × XSt) : Int × XSt := onH S i fun T => if 0 ≤ j ∧ j < tnh T then (if 0 ≤ m ∧ m ≤ 1439 then f T else sNo S 2) else sNo S 1
theorem onW_1 {S : XSt} {i j m : Int} {f : XTw → Int × XSt} (h : ¬ (isHou S i ∧ isHou S j)) : onW S i j m f = sNo S 1 := by
  unfold onW
  by_cases hi : isHou S i
  · obtain ⟨T, e, i0⟩ := id hi
    rw [onH_yes e i0]
    exact if_neg (fun w => h ⟨hi, T, e, w⟩)
  · exact onH_no hi
theorem onW_2 {S : XSt} {i j m : Int} {f : XTw → Int × XSt} (hi : isHou S i) (hj : isHou S j) (hm : ¬ (0 ≤ m ∧ m ≤ 1439)) : onW S i j m f = sNo S 2 := by
  unfold onW
  obtain ⟨T, e, i0⟩ := hi
  obtain ⟨T', e', j0⟩ := hj
  rw [e] at e'
  cases e'
  rw [onH_yes e i0, if_pos j0]
  exact if_neg hm
theorem onW_0 {S : XSt} {i j m : Int} {f : XTw → Int × XSt} {T : XTw} (e : sT S = some T) (i0 : 0 ≤ i ∧ i < tnh T) (j0 : 0 ≤ j ∧ j < tnh T) (hm : 0 ≤ m ∧ m ≤ 1439) : onW S i j m f = f T := by
  unfold onW
  rw [onH_yes e i0, if_pos j0]
  exact if_pos hm
theorem XU.minsK {d M pc np : Nat} {ls : XL} {st rest : XS} {B s n i j m g : Int} {b : Bool} {h0 h : XH} {S : XSt} {T : XTw} {Q : XO → XH → Prop} (U : XU B s n h0 h S) (eT : sT S = some T) (i0 : 0 ≤ i ∧ i < tnh T) (m0 : 0 ≤ m ∧ m ≤ 100000) (hg : g = if b = true then s + 21 else s + 20) (e : xstK M pc 0 st = some (np, some 0, 25, [.inr (.inr s), .inr (.inr g), .inl i, .inl j, .inl m], rest)) (hw : xwords rest ≤ 8) (k : ∀ h1, XU B s n h0 h1 S → WaccX h1 (s + 17) (wbest T (sV S) b i j m) → Wp (d + 16) M np ls (.inl (wmin T (sV S) b i j m) :: rest) h1 Q) : Wp (d + 16) M pc ls st h Q := by
  refine Wp.callR e hw ⟨true, U.ts⟩ (Q1 := fun v h' => v = some (.inl (wmin T (sV S) b i j m)) ∧ XU B s n h0 h' S ∧ WaccX h' (s + 17) (wbest T (sV S) b i j m)) ?_ (fun v h1 q => by
    obtain ⟨rfl, q1, q2⟩ := q
    exact k h1 q1 q2)
  obtain ⟨RT, hv, ne, TX, SN⟩ := U.rooms eT
  obtain ⟨TO, VO⟩ := U.ok eT
  have L := U.lay
  have bnd := U.bnd
  have ts := U.ts
  have f12 := L.2.2.2.2.2.2.2.1
  have f9 := U.f9
  have tg : g < xsz h ∧ xty h g = some (true, if b = true then 6 else 5, none) := by
    cases b
    · rw [hg]; exact ⟨by show s + 20 < _; omega, L.2.2.2.2.2.2.2.2.1.2⟩
    · rw [hg]; exact ⟨by show s + 21 < _; omega, L.2.2.2.2.2.2.2.2.2.1.2⟩
  have sk := x_wseek (d := d) (j := j) (m := m) (B := B) (w := s + 17) (r := s + 5) ⟨by omega, by omega, by omega⟩ f12.2 tg U.r5 SN TX TO VO i0 m0
  refine WpM.of rfl (Wp.vc 400 [] rfl ?_)
  rw [f12.1, f9]
  refine ⟨isF ts rfl, isF ts rfl, isF ts rfl, ?_⟩
  refine Wp.callR (j := 0) rfl (Nat.le_of_ble_eq_true rfl) ⟨true, f12.2.1⟩ sk (fun v h1 q => ?_)
  obtain ⟨rfl, q1, q2, q3, q4⟩ := q
  have U1 : XU B s n h0 h1 S := U.scr (q1.mono (fun z f _ w => Or.inr (Or.inr ⟨by omega, by omega, w.2⟩)) (fun z _ w => Or.inr (Or.inl ⟨by omega, by omega, by omega⟩))) q2 q3
  have rg := fun a => wbest_rg (a := a) (b := b) (j := j) TO i0 m0.1 (V := sV S)
  unfold wmin
  cases ew : wbest T (sV S) b i j m with
  | none =>
    rw [ew] at q4
    refine Wp.vc 400 [] rfl ?_
    exact ⟨fun w => absurd rfl w, fun _ => ⟨trivial, _, rfl, rfl, U1, q4⟩⟩
  | some a =>
    rw [ew] at q4
    have := rg a ew
    show Wp _ _ _ _ (.inl a.1 :: _) _ _
    refine Wp.vc 400 [] rfl ?_
    refine ⟨fun _ => ⟨⟨by omega, by omega⟩, trivial, _, rfl, rfl, U1, q4⟩, fun w => absurd (Decidable.of_not_not w) (by omega)⟩
def opWay (S : XSt) (i j m : Int) : Int × XSt := onW S i j m fun T => sOk S (wmin T (sV S) true i j m)
def opWayAt (S : XSt) (i j m k : Int) : Int × XSt := onW S i j m fun T => match wbest T (sV S) true i j m with
  | none => sNo S 1
  | some a => if 0 ≤ k ∧ k < (a.2.length : Int) then sOk S (a.2.getD k.toNat 0) else sNo S 1
def opSaves (S : XSt) (i j m : Int) : Int × XSt := onW S i j m fun T => sOk S (if wmin T (sV S) false i j m = -2 then -2 else wmin T (sV S) false i j m - wmin T (sV S) true i j m)
theorem x_opWay {d : Nat} {h : XH} {B s n i j m : Int} {S : XSt} (R : Rx h B s S) (O : SOK n S) : WpM (d + 16) 23 [.inr (.inr s), .inl i, .inl j, .inl m] h (XAn B s h (.inl (opWay S i j m).1) (opWay S i j m).2) := by
  refine WpM.of rfl (Wp.vc 400 [] rfl ?_)
  refine XU.anew R O rfl (Nat.zero_le _) (fun h1 U => ?_)
  refine Wp.vc 400 [] rfl ?_
  refine XU.whyK (d := d + 13) U rfl (Nat.le_of_ble_eq_true rfl) (fun T e i0 j0 m0 => ?_) (fun hp => ?_) (fun hi hj hm => ?_)
  · rw [show opWay S i j m = _ from onW_0 e i0 j0 m0]
    refine Wp.vc 400 [] rfl ?_
    refine ⟨fun _ => ⟨isF U.ts rfl, ?_⟩, fun w => absurd rfl w⟩
    refine U.minsK e i0 (j := j) (b := true) ⟨m0.1, by omega⟩ ((U.lay.2.2.2.2.2.2.2.2.2.1.1).trans rfl) rfl (Nat.le_of_ble_eq_true rfl) (fun h2 U2 _ => ?_)
    refine Wp.vc 400 [] rfl ?_
    exact ⟨trivial, U2.ret⟩
  · rw [show opWay S i j m = _ from onW_1 hp]
    refine Wp.vc 400 [] rfl ?_
    first | refine ⟨fun _ => ?_, fun c => absurd (by decide) c⟩ | refine ⟨fun c => absurd c (by decide), fun _ => ?_⟩
    exact U.no (k := 1) (by decide) rfl (fun _ => rfl) rfl
  · rw [show opWay S i j m = _ from onW_2 hi hj hm]
    refine Wp.vc 400 [] rfl ?_
    first | refine ⟨fun _ => ?_, fun c => absurd (by decide) c⟩ | refine ⟨fun c => absurd c (by decide), fun _ => ?_⟩
    exact U.no (k := 2) (by decide) rfl (fun _ => rfl) rfl
theorem x_opWayAt {d : Nat} {h : XH} {B s n i j m k : Int} {S : XSt} (R : Rx h B s S) (O : SOK n S) : WpM (d + 16) 26 [.inr (.inr s), .inl i, .inl j, .inl m, .inl k] h (XAn B s h (.inl (opWayAt S i j m k).1) (opWayAt S i j m k).2) := by
  refine WpM.of rfl (Wp.vc 400 [] rfl ?_)
  refine XU.anew R O rfl (Nat.zero_le _) (fun h1 U => ?_)
  refine Wp.vc 400 [] rfl ?_
  refine XU.whyK (d := d + 13) U rfl (Nat.le_of_ble_eq_true rfl) (fun T e i0 j0 m0 => ?_) (fun hp => ?_) (fun hi hj hm => ?_)
  · rw [show opWayAt S i j m k = _ from onW_0 e i0 j0 m0]
    refine Wp.vc 400 [] rfl ?_
    refine ⟨fun _ => ⟨isF U.ts rfl, ?_⟩, fun w => absurd rfl w⟩
    refine U.minsK e i0 (j := j) (b := true) ⟨m0.1, by omega⟩ ((U.lay.2.2.2.2.2.2.2.2.2.1.1).trans rfl) rfl (Nat.le_of_ble_eq_true rfl) (fun h2 U2 A => ?_)
    have ts := U2.ts
    obtain ⟨f12, w1, w2, w3, w4, w5⟩ := U2.lay.2.2.2.2.2.2.2.1
    have rg := fun a => wbest_rg (a := a) (b := true) (j := j) (U2.ok e).1 i0 m0.1 (V := sV S)
    have many : ∀ d : Nat, WpM d 119 [.inr (.inr (s + 17))] h2 (XE (some (.inl (xfl h2 (s + 17) 52))) h2) := by
      intro d
      refine WpM.of rfl (Wp.vc 400 [] rfl ?_)
      exact ⟨isF w1 rfl, trivial, rfl, rfl⟩
    refine Wp.vc 400 [] rfl ?_
    rw [f12]
    refine ⟨isF ts rfl, ?_⟩
    refine Wp.callE (j := 0) rfl (Nat.le_of_ble_eq_true rfl) ⟨true, w1⟩ (many _) ?_
    have A : WaccX h2 (s + 17) (wbest T (sV S) true i j m) := A
    have fin : ∀ r : Int × XSt, r = sNo S 1 → ∀ ls, Wp (d + 16) 26 67 (some (.inr (.inr s)) :: ls) [] h2 (XAn B s h (.inl r.1) r.2) := by
      rintro r rfl ls
      refine Wp.vc 400 [] rfl ?_
      exact U2.no (k := 1) (by decide) rfl (fun _ => rfl) rfl
    cases ew : wbest T (sV S) true i j m with
    | none =>
      rw [ew] at A
      rw [A.2]
      refine Wp.vc 400 [67] rfl ?_
      (repeat (refine And.intro (by first | exact trivial | exact isF (by assumption) rfl | exact isW (by assumption) rfl | exact isA (by assumption) (by omega) (by omega) | exact isB (by assumption) (by omega) (by omega) | exact isR (by assumption) (by decide) (by omega) (by omega) | (refine ⟨by omega, by omega⟩)) ?_))
      refine Wp.callE (j := 0) rfl (Nat.le_of_ble_eq_true rfl) trivial (x_in k 0 (-1)) ?_
      rw [if_neg (by omega)]
      refine Wp.vc 400 [67] rfl ?_
      exact ⟨fun _ => fin _ rfl _, fun w => absurd rfl w⟩
    | some a =>
      rw [ew] at A
      obtain ⟨-, ⟨A2, A3⟩, A4⟩ := A
      rw [A2]
      refine Wp.vc 400 [67] rfl ?_
      (repeat (refine And.intro (by first | exact trivial | exact isF (by assumption) rfl | exact isW (by assumption) rfl | exact isA (by assumption) (by omega) (by omega) | exact isB (by assumption) (by omega) (by omega) | exact isR (by assumption) (by decide) (by omega) (by omega) | (refine ⟨by omega, by omega⟩)) ?_))
      refine Wp.callE (j := 0) rfl (Nat.le_of_ble_eq_true rfl) trivial (x_in k 0 _) ?_
      by_cases c : 0 ≤ k ∧ k < (a.2.length : Int)
      · rw [if_pos (by omega)]
        have at_ : ∀ d : Nat, WpM d 120 [.inr (.inr (s + 17)), .inl k] h2 (XE (some (.inl (a.2.getD k.toNat 0))) h2) := by
          intro d
          refine WpM.of rfl (Wp.vc 400 [] rfl ?_)
          have := A4 k.toNat (by omega)
          rw [show ((k.toNat : Nat) : Int) = k by omega] at this
          rw [w5, this]
          exact ⟨isF w1 rfl, isA w3 c.1 (by omega), trivial, rfl, rfl⟩
        refine Wp.vc 400 [67] rfl ?_
        rw [f12]
        refine ⟨fun w => absurd w (by decide), fun _ => ⟨isF ts rfl, ?_⟩⟩
        refine Wp.callE (j := 0) rfl (Nat.le_of_ble_eq_true rfl) ⟨true, w1⟩ (at_ _) ?_
        show Wp _ _ _ _ _ _ (XAn B s h (.inl (if 0 ≤ k ∧ k < (a.2.length : Int) then sOk S (a.2.getD k.toNat 0) else sNo S 1).1) (if 0 ≤ k ∧ k < (a.2.length : Int) then sOk S (a.2.getD k.toNat 0) else sNo S 1).2)
        rw [if_pos c]
        refine Wp.vc 400 [] rfl ?_
        exact ⟨trivial, U2.ret⟩
      · rw [if_neg (by omega)]
        refine Wp.vc 400 [67] rfl ?_
        exact ⟨fun _ => fin _ (if_neg c) _, fun w => absurd rfl w⟩
  · rw [show opWayAt S i j m k = _ from onW_1 hp]
    refine Wp.vc 400 [] rfl ?_
    first | refine ⟨fun _ => ?_, fun c => absurd (by decide) c⟩ | refine ⟨fun c => absurd c (by decide), fun _ => ?_⟩
    exact U.no (k := 1) (by decide) rfl (fun _ => rfl) rfl
  · rw [show opWayAt S i j m k = _ from onW_2 hi hj hm]
    refine Wp.vc 400 [] rfl ?_
    first | refine ⟨fun _ => ?_, fun c => absurd (by decide) c⟩ | refine ⟨fun c => absurd c (by decide), fun _ => ?_⟩
    exact U.no (k := 2) (by decide) rfl (fun _ => rfl) rfl
theorem x_opSaves {d : Nat} {h : XH} {B s n i j m : Int} {S : XSt} (R : Rx h B s S) (O : SOK n S) : WpM (d + 16) 27 [.inr (.inr s), .inl i, .inl j, .inl m] h (XAn B s h (.inl (opSaves S i j m).1) (opSaves S i j m).2) := by
  refine WpM.of rfl (Wp.vc 400 [] rfl ?_)
  refine XU.anew R O rfl (Nat.zero_le _) (fun h1 U => ?_)
  refine Wp.vc 400 [] rfl ?_
  refine XU.whyK (d := d + 13) U rfl (Nat.le_of_ble_eq_true rfl) (fun T e i0 j0 m0 => ?_) (fun hp => ?_) (fun hi hj hm => ?_)
  · rw [show opSaves S i j m = _ from onW_0 e i0 j0 m0]
    have rgv : ∀ b, -2 ≤ wmin T (sV S) b i j m ∧ wmin T (sV S) b i j m ≤ 20000 := fun b => by
      have rg := fun a => wbest_rg (a := a) (b := b) (j := j) (U.ok e).1 i0 m0.1 (V := sV S)
      unfold wmin
      cases ew : wbest T (sV S) b i j m with
      | none => exact ⟨Int.le_refl _, show (-2 : Int) ≤ 20000 by decide⟩
      | some a =>
        have := rg a ew
        show -2 ≤ a.1 - m ∧ a.1 - m ≤ 20000
        omega
    have r1 := rgv true
    have r2 := rgv false
    refine Wp.vc 400 [] rfl ?_
    refine ⟨fun _ => ⟨isF U.ts rfl, ?_⟩, fun w => absurd rfl w⟩
    refine U.minsK e i0 (j := j) (b := false) ⟨m0.1, by omega⟩ ((U.lay.2.2.2.2.2.2.2.2.1.1).trans rfl) rfl (Nat.le_of_ble_eq_true rfl) (fun h2 U2 _ => ?_)
    show Wp _ _ _ _ (.inl (wmin T (sV S) false i j m) :: _) _ _
    by_cases c : wmin T (sV S) false i j m = -2
    · rw [if_pos c]
      refine Wp.vc 400 [] rfl ?_
      exact ⟨fun w => absurd c w, fun _ => ⟨trivial, U2.ret⟩⟩
    · rw [if_neg c]
      refine Wp.vc 400 [] rfl ?_
      refine ⟨fun _ => ⟨isF U2.ts rfl, ?_⟩, fun w => absurd c w⟩
      refine U2.minsK e i0 (j := j) (b := true) ⟨m0.1, by omega⟩ ((U2.lay.2.2.2.2.2.2.2.2.2.1.1).trans rfl) rfl (Nat.le_of_ble_eq_true rfl) (fun h3 U3 _ => ?_)
      show Wp _ _ _ _ (.inl (wmin T (sV S) true i j m) :: _) _ _
      refine Wp.vc 400 [] rfl ?_
      exact ⟨⟨by omega, by omega⟩, trivial, U3.ret⟩
  · rw [show opSaves S i j m = _ from onW_1 hp]
    refine Wp.vc 400 [] rfl ?_
    first | refine ⟨fun _ => ?_, fun c => absurd (by decide) c⟩ | refine ⟨fun c => absurd c (by decide), fun _ => ?_⟩
    exact U.no (k := 1) (by decide) rfl (fun _ => rfl) rfl
  · rw [show opSaves S i j m = _ from onW_2 hi hj hm]
    refine Wp.vc 400 [] rfl ?_
    first | refine ⟨fun _ => ?_, fun c => absurd (by decide) c⟩ | refine ⟨fun c => absurd c (by decide), fun _ => ?_⟩
    exact U.no (k := 2) (by decide) rfl (fun _ => rfl) rfl
