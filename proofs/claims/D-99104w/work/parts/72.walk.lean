/-! WALKS, 13: streets, hours -/
set_option maxRecDepth 100000
set_option maxHeartbeats 4000000
/-- an hour's door: is it in the open hours of h at minute mm -/
abbrev tOpen (T : XTw) (h mm : Int) : Prop := thv T 4 h ≤ mm % 1440 / 60 ∧ mm % 1440 / 60 ≤ thv T 5 h
theorem x_Tstreet {d : Nat} {h : XH} {B t i j : Int} {T : XTw} (TX : TownX h B t T) (i0 : 0 ≤ i ∧ i < 7) (j0 : 0 ≤ j ∧ j < 7) : WpM d 258 [.inr (.inr t), .inl i, .inl j] h (XE (some (.inl (tst T i j))) h) := by
  have c := TX.1.2.2
  have c8 := TX.2.1.2.2.2.2.2
  have v := TX.2.2.2.2.2.2 i j i0.1 i0.2 j0.1 j0.2
  clear TX
  refine WpM.of rfl (Wp.vc 400 [] rfl ?_)
  rw [v]
  exact ⟨isF c rfl, ⟨by omega, by omega⟩, ⟨by omega, by omega⟩, isA c8 (by omega) (by omega), trivial, rfl, rfl⟩
theorem x_noticeMany {d : Nat} {h : XH} {B t : Int} {T : XTw} (TX : TownX h B t T) (TO : TOK T) : WpM d 259 [.inr (.inr t)] h (XE (some (.inl ((tnt T).length : Int))) h) := by
  have c := TX.1.2.2
  have e1 := TX.2.2.1.2.2.2.2.2.2.1
  have e2 := TX.2.2.1.2.2.2.2.2.2.2
  obtain ⟨o1, o2, o3, o4, o5⟩ := TO.2.2.2.2.2.2.2.2.2.1
  clear TX TO
  have e : xfl h t 115 + xfl h t 116 = ((tnt T).length : Int) := by rw [e1, e2]; omega
  refine WpM.of rfl (Wp.vc 400 [] rfl ?_)
  rw [e]
  refine ⟨isF c rfl, isF c rfl, ⟨by omega, by omega⟩, trivial, rfl, rfl⟩
theorem x_HisOpen {d : Nat} {h : XH} {B a i mm : Int} {T : XTw} (HX : HouseX h B T a i) (m0 : 0 ≤ mm) : WpM (d + 1) 284 [.inr (.inr a), .inl mm] h (XE (some (.inl (if tOpen T i mm then 1 else 0))) h) := by
  have c := HX.1.2.2
  have e4 := HX.2.1.2.2.2.2.1
  have e5 := HX.2.1.2.2.2.2.2.1
  clear HX
  have em : mm.tmod 1440 = mm % 1440 := Int.tmod_eq_emod_of_nonneg m0
  have ed : (mm % 1440).tdiv 60 = mm % 1440 / 60 := Int.tdiv_eq_ediv_of_nonneg (by omega)
  refine WpM.of rfl (Wp.vc 400 [] rfl ?_)
  rw [em, ed, e4, e5]
  refine ⟨⟨by decide, Or.inl m0⟩, ⟨by decide, Or.inr (by decide)⟩, isF c rfl, isF c rfl, ?_⟩
  refine Wp.callE (j := 0) rfl (Nat.le_of_ble_eq_true rfl) trivial (x_in _ _ _) ?_
  refine Wp.vc 400 [] rfl ?_
  refine ⟨?_, rfl, rfl⟩
  split <;> decide
theorem x_minuteWhy {d : Nat} {h : XH} {B s mm : Int} {S : XSt} (R : Rx h B s S) (p : Prop) : WpM (d + 1) 14 [.inr (.inr s), .inl (xb p), .inl mm] h (XE (some (.inl (@ite Int p (Classical.propDecidable p) (if 0 ≤ mm ∧ mm ≤ 1439 then 0 else 2) 1))) h) := by
  by_cases hp : p
  · rw [xb_pos hp, if_pos hp]
    refine WpM.of rfl (Wp.vc 400 [] rfl ?_)
    refine ⟨fun _ => ?_, fun c => absurd (by decide) c⟩
    refine Wp.callE (j := 0) rfl (Nat.le_of_ble_eq_true rfl) trivial (x_in mm 0 1439) ?_
    refine Wp.vc 400 [] rfl ?_
    by_cases c : 0 ≤ mm ∧ mm ≤ 1439
    · rw [if_pos c, if_pos c]
      exact ⟨fun w => absurd w (by decide), fun _ => ⟨trivial, rfl, rfl⟩⟩
    · rw [if_neg c, if_neg c]
      exact ⟨fun _ => ⟨trivial, rfl, rfl⟩, fun w => absurd rfl w⟩
  · rw [xb_neg hp, if_neg hp]
    refine WpM.of rfl (Wp.vc 400 [] rfl ?_)
    exact ⟨fun c => absurd rfl c, fun _ => ⟨trivial, rfl, rfl⟩⟩
theorem m_refusesWay {d : Nat} {h : XH} {m mm : Int} (p : Prop) : WpM (d + 1) 193 [.inr (.inr m), .inl (xb p), .inl mm] h (XE (some (.inl (@ite Int p (Classical.propDecidable p) (if 0 ≤ mm ∧ mm ≤ 1439 then 0 else 2) 1))) h) := by
  by_cases hp : p
  · rw [xb_pos hp, if_pos hp]
    refine WpM.of rfl (Wp.vc 400 [] rfl ?_)
    refine ⟨fun _ => ?_, fun c => absurd (by decide) c⟩
    refine Wp.callE (j := 0) rfl (Nat.le_of_ble_eq_true rfl) trivial (m_in mm 0 1439) ?_
    refine Wp.vc 400 [] rfl ?_
    by_cases c : 0 ≤ mm ∧ mm ≤ 1439
    · rw [if_pos c, if_pos c]
      exact ⟨fun w => absurd w (by decide), fun _ => ⟨trivial, rfl, rfl⟩⟩
    · rw [if_neg c, if_neg c]
      exact ⟨fun _ => ⟨trivial, rfl, rfl⟩, fun w => absurd rfl w⟩
  · rw [xb_neg hp, if_neg hp]
    refine WpM.of rfl (Wp.vc 400 [] rfl ?_)
    exact ⟨fun c => absurd rfl c, fun _ => ⟨trivial, rfl, rfl⟩⟩
theorem m_isTimed {d : Nat} {h : XH} {B t i : Int} {T : XTw} (TX : TownM h B t T) (TO : TOK T) (i0 : 0 ≤ i ∧ i < tnh T) : WpM d 294 [.inr (.inr t), .inl i] h (XE (some (.inl (thv T 9 i))) h) := by
  have c := TX.1.2.2
  have c7 := TX.2.1.1.2.2.2.1.2.2
  have v := (TX.2.2.2.1 i i0.1 i0.2).2.2.2.1
  have o := (TO.2.2.2.2.1 i i0.1 i0.2).2.2.2.2.1
  have hn := TO.2.2.1
  clear TX TO
  refine WpM.of rfl (Wp.vc 400 [] rfl ?_)
  refine ⟨isF c rfl, isA c7 i0.1 (by omega), fun w => ⟨⟨by decide, by decide⟩, ?_⟩, fun w => ⟨⟨by decide, by decide⟩, ?_⟩⟩
  · rcases v with v | v
    · rw [v.1]
      exact ⟨rfl, rfl⟩
    · omega
  · rcases v with v | v
    · exact absurd v.2 w
    · rw [v.1]
      exact ⟨rfl, rfl⟩
theorem m_isHour {d : Nat} {h : XH} {B t i mm : Int} {T : XTw} (TX : TownM h B t T) (TO : TOK T) (i0 : 0 ≤ i ∧ i < tnh T) (m0 : 0 ≤ mm ∧ mm < 1440) : WpM (d + 1) 295 [.inr (.inr t), .inl i, .inl mm] h (XE (some (.inl (if tOpen T i mm then 1 else 0))) h) := by
  have c := TX.1.2.2
  have c7 := TX.2.1.1.2.2.2.1.2.2
  have c8 := TX.2.1.1.2.2.2.2.1.2.2
  have v := (TX.2.2.2.1 i i0.1 i0.2).2.2.2.1
  have o := (TO.2.2.2.2.1 i i0.1 i0.2).2.2.2.2.2
  have hn := TO.2.2.1
  have it := m_isTimed (d := d) TX TO i0
  clear TX TO
  have em : mm % 1440 = mm := Int.emod_eq_of_lt m0.1 m0.2
  have ed : mm.tdiv 60 = mm / 60 := Int.tdiv_eq_ediv_of_nonneg m0.1
  refine WpM.of rfl (Wp.vc 400 [] rfl ?_)
  refine Wp.callE (j := 0) rfl (Nat.le_of_ble_eq_true rfl) ⟨true, c⟩ it ?_
  refine Wp.vc 400 [] rfl ?_
  rcases v with ⟨v1, v2⟩ | ⟨v1, v2, v3⟩
  · have o : thv T 4 i = 0 ∧ thv T 5 i = 23 := by
      rcases o with o | o
      · omega
      · exact o.2
    have hp : tOpen T i mm := by
      unfold tOpen
      rw [em, o.1, o.2]
      omega
    rw [v1, if_pos hp]
    exact ⟨fun _ => ⟨⟨by decide, by decide⟩, rfl, rfl⟩, fun w => absurd rfl w⟩
  · rw [v1, v2, v3, ed]
    refine ⟨fun w => absurd w (by decide), fun _ => ⟨⟨by decide, Or.inl m0.1⟩, isF c rfl, isA c7 i0.1 (by omega), isF c rfl, isA c8 i0.1 (by omega), ?_⟩⟩
    refine Wp.callE (j := 0) rfl (Nat.le_of_ble_eq_true rfl) trivial (m_in _ _ _) ?_
    unfold tOpen
    rw [em]
    refine Wp.vc 400 [] rfl ?_
    by_cases q : thv T 4 i ≤ mm / 60 ∧ mm / 60 ≤ thv T 5 i
    · rw [if_pos q]
      exact ⟨fun w => absurd w (by decide), fun _ => ⟨⟨by decide, by decide⟩, rfl, rfl⟩⟩
    · rw [if_neg q]
      exact ⟨fun _ => ⟨⟨by decide, by decide⟩, rfl, rfl⟩, fun w => absurd rfl w⟩
/-- whether the door of i is open at minute mm -/
abbrev vOpen (T : XTw) (V : Int → Int) (i mm : Int) : Prop := V i ≠ -2 ∧ ¬ xbit (V 7) i ∧ tOpen T i mm
theorem x_RisOpen {d : Nat} {h : XH} {B a t i mm n : Int} {T : XTw} {V : Int → Int} (L : RoomsL h a) (SN : SnapX h T a t V) (TX : TownX h B t T) (TO : TOK T) (VO : VOK T n V) (i0 : 0 ≤ i ∧ i < tnh T) (m0 : 0 ≤ mm) : WpM (d + 2) 108 [.inr (.inr a), .inl i, .inl mm] h (XE (some (.inl (if vOpen T V i mm then 1 else 0))) h) := by
  have hn := TO.2.2.1
  have ta := L.2.1
  have t1 := L.2.2.1
  have f40 := L.2.2.2.2.2.1
  have hv := SN.2.1 i i0.1 i0.2
  have h44 := SN.2.2.1
  have h43 := SN.1
  have h7 := VO.2.2.2.1
  have ct := TX.1.2.2
  have chs := TX.2.1.1.2.2
  have HX := TX.2.2.2.1 i i0.1 i0.2
  have ca := HX.1.2.2
  clear L SN VO TX TO
  refine WpM.of rfl (Wp.vc 400 [] rfl ?_)
  rw [f40, hv]
  refine ⟨isF ta rfl, isA t1 i0.1 (by omega), fun c => ⟨⟨by decide, by decide⟩, ?_⟩, fun c => ⟨isF ta rfl, ?_⟩⟩
  · rw [if_neg (fun w => w.1 c)]
    exact ⟨rfl, rfl⟩
  · rw [h44]
    refine Wp.callE (j := 0) rfl (Nat.le_of_ble_eq_true rfl) trivial (x_has (V 7) i ⟨by omega, by omega⟩ ⟨i0.1, by omega⟩) ?_
    refine Wp.vc 400 [] rfl ?_
    by_cases c2 : xbit (V 7) i
    · rw [if_pos c2, if_neg (fun w => w.2.1 c2)]
      exact ⟨fun _ => ⟨⟨by decide, by decide⟩, rfl, rfl⟩, fun w => absurd (show ¬ (1 : Int) = 0 by decide) w⟩
    · rw [if_neg c2]
      refine ⟨fun w => absurd rfl w, fun _ => ⟨isF ta rfl, ?_⟩⟩
      rw [h43]
      refine ⟨isF ct rfl, isR chs (by decide) i0.1 (by omega), ?_⟩
      refine Wp.callE (j := 0) rfl (Nat.le_of_ble_eq_true rfl) ⟨true, ca⟩ (x_HisOpen HX m0) ?_
      refine Wp.vc 400 [] rfl ?_
      by_cases c3 : tOpen T i mm
      · rw [if_pos c3, if_pos ⟨c, c2, c3⟩]
        exact ⟨fun w => absurd w (by decide), fun _ => ⟨⟨by decide, by decide⟩, rfl, rfl⟩⟩
      · rw [if_neg c3, if_neg (fun w => c3 w.2.2)]
        exact ⟨fun _ => ⟨⟨by decide, by decide⟩, rfl, rfl⟩, fun w => absurd rfl w⟩
theorem m_isOpenAt {d : Nat} {h : XH} {B m i mm n : Int} {S : XSt} {T : XTw} (R : Rm h B m S) (O : SOK n S) (e : sT S = some T) (i0 : 0 ≤ i ∧ i < tnh T) (m0 : 0 ≤ mm) : WpM (d + 2) 182 [.inr (.inr m), .inl i, .inl mm] h (XE (some (.inl (if vOpen T (sV S) i mm then 1 else 0))) h) := by
  obtain ⟨ne, TX, hv, -⟩ := R.hasT e
  obtain ⟨TO, VO, -⟩ := O.1 T e
  have hn := TO.2.2.1
  have tm := R.2.1.1
  obtain ⟨t2, f2⟩ := R.2.1.2.2.1
  have v1 := hv i i0.1 (by omega)
  have v7 := hv 7 (by decide) (by decide)
  have h7 := VO.2.2.2.1
  have ct := TX.1.2.2
  have em : mm.tmod 1440 = mm % 1440 := Int.tmod_eq_emod_of_nonneg m0
  have hr : 0 ≤ mm % 1440 ∧ mm % 1440 < 1440 := by omega
  have ih := m_isHour (d := d) TX TO i0 hr
  have ee : tOpen T i (mm % 1440) ↔ tOpen T i mm := by unfold tOpen; rw [Int.emod_emod_of_dvd mm (Int.dvd_refl 1440)]
  clear R O TX TO VO hv
  refine WpM.of rfl (Wp.vc 400 [] rfl ?_)
  rw [f2, Int.zero_add, v1, v7]
  refine ⟨isF tm rfl, ⟨by omega, by omega⟩, isA t2 i0.1 (by omega), fun c => ⟨⟨by decide, by decide⟩, ?_⟩, fun c => ⟨isF tm rfl, isA t2 (by decide) (by decide), ?_⟩⟩
  · rw [if_neg (fun w => w.1 c)]
    exact ⟨rfl, rfl⟩
  · refine Wp.callE (j := 0) rfl (Nat.le_of_ble_eq_true rfl) trivial (m_bit (sV S 7) i ⟨by omega, by omega⟩ ⟨i0.1, by omega⟩) ?_
    refine Wp.vc 400 [] rfl ?_
    by_cases c2 : xbit (sV S 7) i
    · rw [if_pos c2, if_neg (fun w => w.2.1 c2)]
      exact ⟨fun _ => ⟨⟨by decide, by decide⟩, rfl, rfl⟩, fun w => absurd (show ¬ (1 : Int) = 0 by decide) w⟩
    · rw [if_neg c2, em]
      refine ⟨fun w => absurd rfl w, fun _ => ⟨isF tm rfl, ⟨by decide, Or.inl m0⟩, ?_⟩⟩
      refine Wp.callE (j := 0) rfl (Nat.le_of_ble_eq_true rfl) ⟨true, ct⟩ ih ?_
      refine Wp.vc 400 [] rfl ?_
      by_cases c3 : tOpen T i mm
      · rw [if_pos (ee.mpr c3), if_pos ⟨c, c2, c3⟩]
        exact ⟨fun w => absurd w (by decide), fun _ => ⟨⟨by decide, by decide⟩, rfl, rfl⟩⟩
      · rw [if_neg (fun w => c3 (ee.mp w)), if_neg (fun w => c3 w.2.2)]
        exact ⟨fun _ => ⟨⟨by decide, by decide⟩, rfl, rfl⟩, fun w => absurd rfl w⟩
