/-! WALKS, 98: the law's cases -/
set_option maxRecDepth 100000
set_option maxHeartbeats 4000000
theorem xcmp_self (a : Int) : xcmp a a = 0 := by
  unfold xcmp
  rw [if_neg (by omega), if_pos rfl]
def LawN (d : Nat) (h0 : XH) (s scr L n i : Int) (xs : Nat → Int) (Q : XO → XH → Prop) : Prop := ∀ (S' : XSt) (h' : XH) (l5 l6 : Option XV), LawI h0 s scr L (n + 1) xs S' h' → Wp (d + 113) 297 23 [some (.inr (.inr scr)), some (.inr (.inr s)), some (.inr (.inr (s + 126))), some (.inr (.inr (s + 142))), some (.inl (i + 6)), l5, l6] [] h' Q
theorem law_c0 {d : Nat} {h0 h : XH} {s scr L n i : Int} {xs : Nat → Int} {S : XSt} {l5 l6 : Option XV} {Q : XO → XH → Prop} (I : LawI h0 s scr L n xs S h) (hi : i = 6 * n ∧ i + 6 ≤ L ∧ L ≤ 384) (nx : LawN d h0 s scr L n i xs Q) : Wp (d + 113) 297 236 [some (.inr (.inr scr)), some (.inr (.inr s)), some (.inr (.inr (s + 126))), some (.inr (.inr (s + 142))), some (.inl i), l5, l6] [] h Q := by
  obtain ⟨R, M0, O⟩ := I.1
  have n0 := O.2.2.2.2.2
  have n63 : n ≤ 63 := by omega
  have ts := R.2.1.2.1
  have tc := I.2.2.1.2.2.1
  refine Wp.vc 400 [] rfl ?_
  refine ⟨⟨by omega, by omega⟩, isA tc (by omega) (by omega), ⟨by omega, by omega⟩, isA tc (by omega) (by omega), ⟨by omega, by omega⟩, isA tc (by omega) (by omega), ⟨by omega, by omega⟩, isA tc (by omega) (by omega), ⟨by omega, by omega⟩, isA tc (by omega) (by omega), ?_⟩
  refine Wp.callR (j := 0) rfl (Nat.le_of_ble_eq_true rfl) ⟨true, ts⟩ (xend (x_opFeed R O)) (fun v1 g q => ?_)
  obtain ⟨M, C, tm, tc2, ar⟩ := I.mid q
  have e1 := q.1
  subst e1
  refine Wp.vc 400 [] rfl ?_
  rw [ar (i + 1) (by omega) (by omega), ar (i + 2) (by omega) (by omega), ar (i + 3) (by omega) (by omega), ar (i + 4) (by omega) (by omega), ar (i + 5) (by omega) (by omega)]
  refine ⟨⟨by omega, by omega⟩, isA tc2 (by omega) (by omega), ⟨by omega, by omega⟩, isA tc2 (by omega) (by omega), ⟨by omega, by omega⟩, isA tc2 (by omega) (by omega), ⟨by omega, by omega⟩, isA tc2 (by omega) (by omega), ⟨by omega, by omega⟩, isA tc2 (by omega) (by omega), ?_⟩
  refine Wp.callR (j := 0) rfl (Nat.le_of_ble_eq_true rfl) ⟨true, tm⟩ (mend (m_opFeed M O)) (fun v2 g2 q2 => ?_)
  have e2 := q2.1
  subst e2
  have I2 := I.next q q2 ((sk_feed O).mono (by omega) (by omega))
  have nn := nx _ _ l5 l6 I2
  refine Wp.vc 400 [23] rfl ?_
  exact ⟨fun _ => ⟨⟨by omega, by omega⟩, nn⟩, fun w => absurd rfl w⟩
theorem law_c1 {d : Nat} {h0 h : XH} {s scr L n i : Int} {xs : Nat → Int} {S : XSt} {l5 l6 : Option XV} {Q : XO → XH → Prop} (I : LawI h0 s scr L n xs S h) (hi : i = 6 * n ∧ i + 6 ≤ L ∧ L ≤ 384) (nx : LawN d h0 s scr L n i xs Q) : Wp (d + 113) 297 309 [some (.inr (.inr scr)), some (.inr (.inr s)), some (.inr (.inr (s + 126))), some (.inr (.inr (s + 142))), some (.inl i), l5, l6] [] h Q := by
  obtain ⟨R, M0, O⟩ := I.1
  have n0 := O.2.2.2.2.2
  have n63 : n ≤ 63 := by omega
  have ts := R.2.1.2.1
  have tc := I.2.2.1.2.2.1
  refine Wp.vc 400 [] rfl ?_
  refine ⟨⟨by omega, by omega⟩, isA tc (by omega) (by omega), ?_⟩
  refine Wp.callR (j := 0) rfl (Nat.le_of_ble_eq_true rfl) ⟨true, ts⟩ (x_opTown R O I.2.1.1 I.2.1.2.1) (fun v1 g q => ?_)
  obtain ⟨M, C, tm, tc2, ar⟩ := I.mid q
  have e1 := q.1
  subst e1
  refine Wp.vc 400 [] rfl ?_
  rw [ar (i + 1) (by omega) (by omega)]
  refine ⟨⟨by omega, by omega⟩, isA tc2 (by omega) (by omega), ?_⟩
  refine Wp.callR (j := 0) rfl (Nat.le_of_ble_eq_true rfl) ⟨true, tm⟩ (m_opTown M O C) (fun v2 g2 q2 => ?_)
  have e2 := q2.1
  subst e2
  have I2 := I.next q q2 ((sk_town O).mono (by omega) (by omega))
  have nn := nx _ _ l5 l6 I2
  refine Wp.vc 400 [23] rfl ?_
  exact ⟨fun _ => ⟨⟨by omega, by omega⟩, nn⟩, fun w => absurd rfl w⟩
theorem law_c2 {d : Nat} {h0 h : XH} {s scr L n i : Int} {xs : Nat → Int} {S : XSt} {l5 l6 : Option XV} {Q : XO → XH → Prop} (I : LawI h0 s scr L n xs S h) (hi : i = 6 * n ∧ i + 6 ≤ L ∧ L ≤ 384) (nx : LawN d h0 s scr L n i xs Q) : Wp (d + 113) 297 334 [some (.inr (.inr scr)), some (.inr (.inr s)), some (.inr (.inr (s + 126))), some (.inr (.inr (s + 142))), some (.inl i), l5, l6] [] h Q := by
  obtain ⟨R, M0, O⟩ := I.1
  have n0 := O.2.2.2.2.2
  have n63 : n ≤ 63 := by omega
  have ts := R.2.1.2.1
  have tc := I.2.2.1.2.2.1
  refine Wp.vc 400 [] rfl ?_
  refine Wp.callR (j := 0) rfl (Nat.le_of_ble_eq_true rfl) ⟨true, ts⟩ (xend (x_opFault R)) (fun v1 g q => ?_)
  obtain ⟨M, C, tm, tc2, ar⟩ := I.mid q
  have e1 := q.1
  subst e1
  refine Wp.vc 400 [] rfl ?_
  refine Wp.callR (j := 0) rfl (Nat.le_of_ble_eq_true rfl) ⟨true, tm⟩ (mend (m_opFault M)) (fun v2 g2 q2 => ?_)
  have e2 := q2.1
  subst e2
  have I2 := I.next q q2 ((sk_fault O).mono (by omega) (by omega))
  have nn := nx _ _ l5 l6 I2
  refine Wp.vc 400 [23] rfl ?_
  exact ⟨fun _ => ⟨⟨by omega, by omega⟩, nn⟩, fun w => absurd rfl w⟩
theorem law_c3 {d : Nat} {h0 h : XH} {s scr L n i : Int} {xs : Nat → Int} {S : XSt} {l5 l6 : Option XV} {Q : XO → XH → Prop} (I : LawI h0 s scr L n xs S h) (hi : i = 6 * n ∧ i + 6 ≤ L ∧ L ≤ 384) (nx : LawN d h0 s scr L n i xs Q) : Wp (d + 113) 297 347 [some (.inr (.inr scr)), some (.inr (.inr s)), some (.inr (.inr (s + 126))), some (.inr (.inr (s + 142))), some (.inl i), l5, l6] [] h Q := by
  obtain ⟨R, M0, O⟩ := I.1
  have n0 := O.2.2.2.2.2
  have n63 : n ≤ 63 := by omega
  have ts := R.2.1.2.1
  have tc := I.2.2.1.2.2.1
  refine Wp.vc 400 [] rfl ?_
  refine Wp.callR (j := 0) rfl (Nat.le_of_ble_eq_true rfl) ⟨true, ts⟩ (xend (x_opWhere R O)) (fun v1 g q => ?_)
  obtain ⟨M, C, tm, tc2, ar⟩ := I.mid q
  have e1 := q.1
  subst e1
  refine Wp.vc 400 [] rfl ?_
  refine Wp.callR (j := 0) rfl (Nat.le_of_ble_eq_true rfl) ⟨true, tm⟩ (mend (m_opWhere M)) (fun v2 g2 q2 => ?_)
  have e2 := q2.1
  subst e2
  have I2 := I.next q q2 ((sk_where O).mono (by omega) (by omega))
  have nn := nx _ _ l5 l6 I2
  refine Wp.vc 400 [23] rfl ?_
  exact ⟨fun _ => ⟨⟨by omega, by omega⟩, nn⟩, fun w => absurd rfl w⟩
theorem law_c4 {d : Nat} {h0 h : XH} {s scr L n i : Int} {xs : Nat → Int} {S : XSt} {l5 l6 : Option XV} {Q : XO → XH → Prop} (I : LawI h0 s scr L n xs S h) (hi : i = 6 * n ∧ i + 6 ≤ L ∧ L ≤ 384) (nx : LawN d h0 s scr L n i xs Q) : Wp (d + 113) 297 360 [some (.inr (.inr scr)), some (.inr (.inr s)), some (.inr (.inr (s + 126))), some (.inr (.inr (s + 142))), some (.inl i), l5, l6] [] h Q := by
  obtain ⟨R, M0, O⟩ := I.1
  have n0 := O.2.2.2.2.2
  have n63 : n ≤ 63 := by omega
  have ts := R.2.1.2.1
  have tc := I.2.2.1.2.2.1
  refine Wp.vc 400 [] rfl ?_
  refine ⟨⟨by omega, by omega⟩, isA tc (by omega) (by omega), ⟨by omega, by omega⟩, isA tc (by omega) (by omega), ?_⟩
  refine Wp.callR (j := 0) rfl (Nat.le_of_ble_eq_true rfl) ⟨true, ts⟩ (xend (x_opHouse R O)) (fun v1 g q => ?_)
  obtain ⟨M, C, tm, tc2, ar⟩ := I.mid q
  have e1 := q.1
  subst e1
  refine Wp.vc 400 [] rfl ?_
  rw [ar (i + 1) (by omega) (by omega), ar (i + 2) (by omega) (by omega)]
  refine ⟨⟨by omega, by omega⟩, isA tc2 (by omega) (by omega), ⟨by omega, by omega⟩, isA tc2 (by omega) (by omega), ?_⟩
  refine Wp.callR (j := 0) rfl (Nat.le_of_ble_eq_true rfl) ⟨true, tm⟩ (mend (m_opHouse M O)) (fun v2 g2 q2 => ?_)
  have e2 := q2.1
  subst e2
  have I2 := I.next q q2 ((sk_house O).mono (by omega) (by omega))
  have nn := nx _ _ l5 l6 I2
  refine Wp.vc 400 [23] rfl ?_
  exact ⟨fun _ => ⟨⟨by omega, by omega⟩, nn⟩, fun w => absurd rfl w⟩
theorem law_c5 {d : Nat} {h0 h : XH} {s scr L n i : Int} {xs : Nat → Int} {S : XSt} {l5 l6 : Option XV} {Q : XO → XH → Prop} (I : LawI h0 s scr L n xs S h) (hi : i = 6 * n ∧ i + 6 ≤ L ∧ L ≤ 384) (nx : LawN d h0 s scr L n i xs Q) : Wp (d + 113) 297 397 [some (.inr (.inr scr)), some (.inr (.inr s)), some (.inr (.inr (s + 126))), some (.inr (.inr (s + 142))), some (.inl i), l5, l6] [] h Q := by
  obtain ⟨R, M0, O⟩ := I.1
  have n0 := O.2.2.2.2.2
  have n63 : n ≤ 63 := by omega
  have ts := R.2.1.2.1
  have tc := I.2.2.1.2.2.1
  refine Wp.vc 400 [] rfl ?_
  refine ⟨⟨by omega, by omega⟩, isA tc (by omega) (by omega), ⟨by omega, by omega⟩, isA tc (by omega) (by omega), ?_⟩
  refine Wp.callR (j := 0) rfl (Nat.le_of_ble_eq_true rfl) ⟨true, ts⟩ (xend (x_opOpen R O)) (fun v1 g q => ?_)
  obtain ⟨M, C, tm, tc2, ar⟩ := I.mid q
  have e1 := q.1
  subst e1
  refine Wp.vc 400 [] rfl ?_
  rw [ar (i + 1) (by omega) (by omega), ar (i + 2) (by omega) (by omega)]
  refine ⟨⟨by omega, by omega⟩, isA tc2 (by omega) (by omega), ⟨by omega, by omega⟩, isA tc2 (by omega) (by omega), ?_⟩
  refine Wp.callR (j := 0) rfl (Nat.le_of_ble_eq_true rfl) ⟨true, tm⟩ (mend (m_opOpen M O)) (fun v2 g2 q2 => ?_)
  have e2 := q2.1
  subst e2
  have I2 := I.next q q2 ((sk_open O).mono (by omega) (by omega))
  have nn := nx _ _ l5 l6 I2
  refine Wp.vc 400 [23] rfl ?_
  exact ⟨fun _ => ⟨⟨by omega, by omega⟩, nn⟩, fun w => absurd rfl w⟩
theorem law_c6 {d : Nat} {h0 h : XH} {s scr L n i : Int} {xs : Nat → Int} {S : XSt} {l5 l6 : Option XV} {Q : XO → XH → Prop} (I : LawI h0 s scr L n xs S h) (hi : i = 6 * n ∧ i + 6 ≤ L ∧ L ≤ 384) (nx : LawN d h0 s scr L n i xs Q) : Wp (d + 113) 297 434 [some (.inr (.inr scr)), some (.inr (.inr s)), some (.inr (.inr (s + 126))), some (.inr (.inr (s + 142))), some (.inl i), l5, l6] [] h Q := by
  obtain ⟨R, M0, O⟩ := I.1
  have n0 := O.2.2.2.2.2
  have n63 : n ≤ 63 := by omega
  have ts := R.2.1.2.1
  have tc := I.2.2.1.2.2.1
  refine Wp.vc 400 [] rfl ?_
  refine ⟨⟨by omega, by omega⟩, isA tc (by omega) (by omega), ⟨by omega, by omega⟩, isA tc (by omega) (by omega), ?_⟩
  refine Wp.callR (j := 0) rfl (Nat.le_of_ble_eq_true rfl) ⟨true, ts⟩ (xend (x_opStreet R O)) (fun v1 g q => ?_)
  obtain ⟨M, C, tm, tc2, ar⟩ := I.mid q
  have e1 := q.1
  subst e1
  refine Wp.vc 400 [] rfl ?_
  rw [ar (i + 1) (by omega) (by omega), ar (i + 2) (by omega) (by omega)]
  refine ⟨⟨by omega, by omega⟩, isA tc2 (by omega) (by omega), ⟨by omega, by omega⟩, isA tc2 (by omega) (by omega), ?_⟩
  refine Wp.callR (j := 0) rfl (Nat.le_of_ble_eq_true rfl) ⟨true, tm⟩ (mend (m_opStreet M O)) (fun v2 g2 q2 => ?_)
  have e2 := q2.1
  subst e2
  have I2 := I.next q q2 ((sk_street O).mono (by omega) (by omega))
  have nn := nx _ _ l5 l6 I2
  refine Wp.vc 400 [23] rfl ?_
  exact ⟨fun _ => ⟨⟨by omega, by omega⟩, nn⟩, fun w => absurd rfl w⟩
theorem law_c7 {d : Nat} {h0 h : XH} {s scr L n i : Int} {xs : Nat → Int} {S : XSt} {l5 l6 : Option XV} {Q : XO → XH → Prop} (I : LawI h0 s scr L n xs S h) (hi : i = 6 * n ∧ i + 6 ≤ L ∧ L ≤ 384) (nx : LawN d h0 s scr L n i xs Q) : Wp (d + 113) 297 471 [some (.inr (.inr scr)), some (.inr (.inr s)), some (.inr (.inr (s + 126))), some (.inr (.inr (s + 142))), some (.inl i), l5, l6] [] h Q := by
  obtain ⟨R, M0, O⟩ := I.1
  have n0 := O.2.2.2.2.2
  have n63 : n ≤ 63 := by omega
  have ts := R.2.1.2.1
  have tc := I.2.2.1.2.2.1
  refine Wp.vc 400 [] rfl ?_
  refine ⟨⟨by omega, by omega⟩, isA tc (by omega) (by omega), ⟨by omega, by omega⟩, isA tc (by omega) (by omega), ?_⟩
  refine Wp.callR (j := 0) rfl (Nat.le_of_ble_eq_true rfl) ⟨true, ts⟩ (xend (x_opPerson R O)) (fun v1 g q => ?_)
  obtain ⟨M, C, tm, tc2, ar⟩ := I.mid q
  have e1 := q.1
  subst e1
  refine Wp.vc 400 [] rfl ?_
  rw [ar (i + 1) (by omega) (by omega), ar (i + 2) (by omega) (by omega)]
  refine ⟨⟨by omega, by omega⟩, isA tc2 (by omega) (by omega), ⟨by omega, by omega⟩, isA tc2 (by omega) (by omega), ?_⟩
  refine Wp.callR (j := 0) rfl (Nat.le_of_ble_eq_true rfl) ⟨true, tm⟩ (mend (m_opPerson M O)) (fun v2 g2 q2 => ?_)
  have e2 := q2.1
  subst e2
  have I2 := I.next q q2 ((sk_person O).mono (by omega) (by omega))
  have nn := nx _ _ l5 l6 I2
  refine Wp.vc 400 [23] rfl ?_
  exact ⟨fun _ => ⟨⟨by omega, by omega⟩, nn⟩, fun w => absurd rfl w⟩
theorem law_c8 {d : Nat} {h0 h : XH} {s scr L n i : Int} {xs : Nat → Int} {S : XSt} {l5 l6 : Option XV} {Q : XO → XH → Prop} (I : LawI h0 s scr L n xs S h) (hi : i = 6 * n ∧ i + 6 ≤ L ∧ L ≤ 384) (nx : LawN d h0 s scr L n i xs Q) : Wp (d + 113) 297 508 [some (.inr (.inr scr)), some (.inr (.inr s)), some (.inr (.inr (s + 126))), some (.inr (.inr (s + 142))), some (.inl i), l5, l6] [] h Q := by
  obtain ⟨R, M0, O⟩ := I.1
  have n0 := O.2.2.2.2.2
  have n63 : n ≤ 63 := by omega
  have ts := R.2.1.2.1
  have tc := I.2.2.1.2.2.1
  refine Wp.vc 400 [] rfl ?_
  refine ⟨⟨by omega, by omega⟩, isA tc (by omega) (by omega), ?_⟩
  refine Wp.callR (j := 0) rfl (Nat.le_of_ble_eq_true rfl) ⟨true, ts⟩ (xend (x_opCandle R O)) (fun v1 g q => ?_)
  obtain ⟨M, C, tm, tc2, ar⟩ := I.mid q
  have e1 := q.1
  subst e1
  refine Wp.vc 400 [] rfl ?_
  rw [ar (i + 1) (by omega) (by omega)]
  refine ⟨⟨by omega, by omega⟩, isA tc2 (by omega) (by omega), ?_⟩
  refine Wp.callR (j := 0) rfl (Nat.le_of_ble_eq_true rfl) ⟨true, tm⟩ (mend (m_opCandle M O)) (fun v2 g2 q2 => ?_)
  have e2 := q2.1
  subst e2
  have I2 := I.next q q2 ((sk_candle O).mono (by omega) (by omega))
  have nn := nx _ _ l5 l6 I2
  refine Wp.vc 400 [23] rfl ?_
  exact ⟨fun _ => ⟨⟨by omega, by omega⟩, nn⟩, fun w => absurd rfl w⟩
theorem law_c9 {d : Nat} {h0 h : XH} {s scr L n i : Int} {xs : Nat → Int} {S : XSt} {l5 l6 : Option XV} {Q : XO → XH → Prop} (I : LawI h0 s scr L n xs S h) (hi : i = 6 * n ∧ i + 6 ≤ L ∧ L ≤ 384) (nx : LawN d h0 s scr L n i xs Q) : Wp (d + 113) 297 533 [some (.inr (.inr scr)), some (.inr (.inr s)), some (.inr (.inr (s + 126))), some (.inr (.inr (s + 142))), some (.inl i), l5, l6] [] h Q := by
  obtain ⟨R, M0, O⟩ := I.1
  have n0 := O.2.2.2.2.2
  have n63 : n ≤ 63 := by omega
  have ts := R.2.1.2.1
  have tc := I.2.2.1.2.2.1
  refine Wp.vc 400 [] rfl ?_
  refine ⟨⟨by omega, by omega⟩, isA tc (by omega) (by omega), ⟨by omega, by omega⟩, isA tc (by omega) (by omega), ?_⟩
  refine Wp.callR (j := 0) rfl (Nat.le_of_ble_eq_true rfl) ⟨true, ts⟩ (xend (x_opCandleAt R O)) (fun v1 g q => ?_)
  obtain ⟨M, C, tm, tc2, ar⟩ := I.mid q
  have e1 := q.1
  subst e1
  refine Wp.vc 400 [] rfl ?_
  rw [ar (i + 1) (by omega) (by omega), ar (i + 2) (by omega) (by omega)]
  refine ⟨⟨by omega, by omega⟩, isA tc2 (by omega) (by omega), ⟨by omega, by omega⟩, isA tc2 (by omega) (by omega), ?_⟩
  refine Wp.callR (j := 0) rfl (Nat.le_of_ble_eq_true rfl) ⟨true, tm⟩ (mend (m_opCandleAt M O)) (fun v2 g2 q2 => ?_)
  have e2 := q2.1
  subst e2
  have I2 := I.next q q2 ((sk_candleAt O).mono (by omega) (by omega))
  have nn := nx _ _ l5 l6 I2
  refine Wp.vc 400 [23] rfl ?_
  exact ⟨fun _ => ⟨⟨by omega, by omega⟩, nn⟩, fun w => absurd rfl w⟩
theorem law_c10 {d : Nat} {h0 h : XH} {s scr L n i : Int} {xs : Nat → Int} {S : XSt} {l5 l6 : Option XV} {Q : XO → XH → Prop} (I : LawI h0 s scr L n xs S h) (hi : i = 6 * n ∧ i + 6 ≤ L ∧ L ≤ 384) (nx : LawN d h0 s scr L n i xs Q) : Wp (d + 113) 297 570 [some (.inr (.inr scr)), some (.inr (.inr s)), some (.inr (.inr (s + 126))), some (.inr (.inr (s + 142))), some (.inl i), l5, l6] [] h Q := by
  obtain ⟨R, M0, O⟩ := I.1
  have n0 := O.2.2.2.2.2
  have n63 : n ≤ 63 := by omega
  have ts := R.2.1.2.1
  have tc := I.2.2.1.2.2.1
  refine Wp.vc 400 [] rfl ?_
  refine Wp.callR (j := 0) rfl (Nat.le_of_ble_eq_true rfl) ⟨true, ts⟩ (xend (x_opMutual R O)) (fun v1 g q => ?_)
  obtain ⟨M, C, tm, tc2, ar⟩ := I.mid q
  have e1 := q.1
  subst e1
  refine Wp.vc 400 [] rfl ?_
  refine Wp.callR (j := 0) rfl (Nat.le_of_ble_eq_true rfl) ⟨true, tm⟩ (mend (m_opMutual M O)) (fun v2 g2 q2 => ?_)
  have e2 := q2.1
  subst e2
  have I2 := I.next q q2 ((sk_mutual O).mono (by omega) (by omega))
  have nn := nx _ _ l5 l6 I2
  refine Wp.vc 400 [23] rfl ?_
  exact ⟨fun _ => ⟨⟨by omega, by omega⟩, nn⟩, fun w => absurd rfl w⟩
theorem law_c11 {d : Nat} {h0 h : XH} {s scr L n i : Int} {xs : Nat → Int} {S : XSt} {l5 l6 : Option XV} {Q : XO → XH → Prop} (I : LawI h0 s scr L n xs S h) (hi : i = 6 * n ∧ i + 6 ≤ L ∧ L ≤ 384) (nx : LawN d h0 s scr L n i xs Q) : Wp (d + 113) 297 583 [some (.inr (.inr scr)), some (.inr (.inr s)), some (.inr (.inr (s + 126))), some (.inr (.inr (s + 142))), some (.inl i), l5, l6] [] h Q := by
  obtain ⟨R, M0, O⟩ := I.1
  have n0 := O.2.2.2.2.2
  have n63 : n ≤ 63 := by omega
  have ts := R.2.1.2.1
  have tc := I.2.2.1.2.2.1
  refine Wp.vc 400 [] rfl ?_
  refine Wp.callR (j := 0) rfl (Nat.le_of_ble_eq_true rfl) ⟨true, ts⟩ (xend (x_opJudge R O)) (fun v1 g q => ?_)
  obtain ⟨M, C, tm, tc2, ar⟩ := I.mid q
  have e1 := q.1
  subst e1
  refine Wp.vc 400 [] rfl ?_
  refine Wp.callR (j := 0) rfl (Nat.le_of_ble_eq_true rfl) ⟨true, tm⟩ (mend (m_opJudge M O)) (fun v2 g2 q2 => ?_)
  have e2 := q2.1
  subst e2
  have I2 := I.next q q2 ((sk_judge O).mono (by omega) (by omega))
  have nn := nx _ _ l5 l6 I2
  refine Wp.vc 400 [23] rfl ?_
  exact ⟨fun _ => ⟨⟨by omega, by omega⟩, nn⟩, fun w => absurd rfl w⟩
theorem law_c12 {d : Nat} {h0 h : XH} {s scr L n i : Int} {xs : Nat → Int} {S : XSt} {l5 l6 : Option XV} {Q : XO → XH → Prop} (I : LawI h0 s scr L n xs S h) (hi : i = 6 * n ∧ i + 6 ≤ L ∧ L ≤ 384) (nx : LawN d h0 s scr L n i xs Q) : Wp (d + 113) 297 596 [some (.inr (.inr scr)), some (.inr (.inr s)), some (.inr (.inr (s + 126))), some (.inr (.inr (s + 142))), some (.inl i), l5, l6] [] h Q := by
  obtain ⟨R, M0, O⟩ := I.1
  have n0 := O.2.2.2.2.2
  have n63 : n ≤ 63 := by omega
  have ts := R.2.1.2.1
  have tc := I.2.2.1.2.2.1
  refine Wp.vc 400 [] rfl ?_
  refine ⟨⟨by omega, by omega⟩, isA tc (by omega) (by omega), ⟨by omega, by omega⟩, isA tc (by omega) (by omega), ⟨by omega, by omega⟩, isA tc (by omega) (by omega), ?_⟩
  refine Wp.callR (j := 0) rfl (Nat.le_of_ble_eq_true rfl) ⟨true, ts⟩ (xend (x_opWay R O)) (fun v1 g q => ?_)
  obtain ⟨M, C, tm, tc2, ar⟩ := I.mid q
  have e1 := q.1
  subst e1
  refine Wp.vc 400 [] rfl ?_
  rw [ar (i + 1) (by omega) (by omega), ar (i + 2) (by omega) (by omega), ar (i + 3) (by omega) (by omega)]
  refine ⟨⟨by omega, by omega⟩, isA tc2 (by omega) (by omega), ⟨by omega, by omega⟩, isA tc2 (by omega) (by omega), ⟨by omega, by omega⟩, isA tc2 (by omega) (by omega), ?_⟩
  refine Wp.callR (j := 0) rfl (Nat.le_of_ble_eq_true rfl) ⟨true, tm⟩ (mend (m_opWay M O)) (fun v2 g2 q2 => ?_)
  have e2 := q2.1
  subst e2
  have I2 := I.next q q2 ((sk_way O).mono (by omega) (by omega))
  have nn := nx _ _ l5 l6 I2
  refine Wp.vc 400 [23] rfl ?_
  exact ⟨fun _ => ⟨⟨by omega, by omega⟩, nn⟩, fun w => absurd rfl w⟩
theorem law_c13 {d : Nat} {h0 h : XH} {s scr L n i : Int} {xs : Nat → Int} {S : XSt} {l5 l6 : Option XV} {Q : XO → XH → Prop} (I : LawI h0 s scr L n xs S h) (hi : i = 6 * n ∧ i + 6 ≤ L ∧ L ≤ 384) (nx : LawN d h0 s scr L n i xs Q) : Wp (d + 113) 297 645 [some (.inr (.inr scr)), some (.inr (.inr s)), some (.inr (.inr (s + 126))), some (.inr (.inr (s + 142))), some (.inl i), l5, l6] [] h Q := by
  obtain ⟨R, M0, O⟩ := I.1
  have n0 := O.2.2.2.2.2
  have n63 : n ≤ 63 := by omega
  have ts := R.2.1.2.1
  have tc := I.2.2.1.2.2.1
  refine Wp.vc 400 [] rfl ?_
  refine ⟨⟨by omega, by omega⟩, isA tc (by omega) (by omega), ⟨by omega, by omega⟩, isA tc (by omega) (by omega), ⟨by omega, by omega⟩, isA tc (by omega) (by omega), ⟨by omega, by omega⟩, isA tc (by omega) (by omega), ?_⟩
  refine Wp.callR (j := 0) rfl (Nat.le_of_ble_eq_true rfl) ⟨true, ts⟩ (xend (x_opWayAt R O)) (fun v1 g q => ?_)
  obtain ⟨M, C, tm, tc2, ar⟩ := I.mid q
  have e1 := q.1
  subst e1
  refine Wp.vc 400 [] rfl ?_
  rw [ar (i + 1) (by omega) (by omega), ar (i + 2) (by omega) (by omega), ar (i + 3) (by omega) (by omega), ar (i + 4) (by omega) (by omega)]
  refine ⟨⟨by omega, by omega⟩, isA tc2 (by omega) (by omega), ⟨by omega, by omega⟩, isA tc2 (by omega) (by omega), ⟨by omega, by omega⟩, isA tc2 (by omega) (by omega), ⟨by omega, by omega⟩, isA tc2 (by omega) (by omega), ?_⟩
  refine Wp.callR (j := 0) rfl (Nat.le_of_ble_eq_true rfl) ⟨true, tm⟩ (mend (m_opWayAt M O)) (fun v2 g2 q2 => ?_)
  have e2 := q2.1
  subst e2
  have I2 := I.next q q2 ((sk_wayAt O).mono (by omega) (by omega))
  have nn := nx _ _ l5 l6 I2
  refine Wp.vc 400 [23] rfl ?_
  exact ⟨fun _ => ⟨⟨by omega, by omega⟩, nn⟩, fun w => absurd rfl w⟩
theorem law_c14 {d : Nat} {h0 h : XH} {s scr L n i : Int} {xs : Nat → Int} {S : XSt} {l5 l6 : Option XV} {Q : XO → XH → Prop} (I : LawI h0 s scr L n xs S h) (hi : i = 6 * n ∧ i + 6 ≤ L ∧ L ≤ 384) (nx : LawN d h0 s scr L n i xs Q) : Wp (d + 113) 297 706 [some (.inr (.inr scr)), some (.inr (.inr s)), some (.inr (.inr (s + 126))), some (.inr (.inr (s + 142))), some (.inl i), l5, l6] [] h Q := by
  obtain ⟨R, M0, O⟩ := I.1
  have n0 := O.2.2.2.2.2
  have n63 : n ≤ 63 := by omega
  have ts := R.2.1.2.1
  have tc := I.2.2.1.2.2.1
  refine Wp.vc 400 [] rfl ?_
  refine ⟨⟨by omega, by omega⟩, isA tc (by omega) (by omega), ⟨by omega, by omega⟩, isA tc (by omega) (by omega), ⟨by omega, by omega⟩, isA tc (by omega) (by omega), ?_⟩
  refine Wp.callR (j := 0) rfl (Nat.le_of_ble_eq_true rfl) ⟨true, ts⟩ (xend (x_opSaves R O)) (fun v1 g q => ?_)
  obtain ⟨M, C, tm, tc2, ar⟩ := I.mid q
  have e1 := q.1
  subst e1
  refine Wp.vc 400 [] rfl ?_
  rw [ar (i + 1) (by omega) (by omega), ar (i + 2) (by omega) (by omega), ar (i + 3) (by omega) (by omega)]
  refine ⟨⟨by omega, by omega⟩, isA tc2 (by omega) (by omega), ⟨by omega, by omega⟩, isA tc2 (by omega) (by omega), ⟨by omega, by omega⟩, isA tc2 (by omega) (by omega), ?_⟩
  refine Wp.callR (j := 0) rfl (Nat.le_of_ble_eq_true rfl) ⟨true, tm⟩ (mend (m_opSaves M O)) (fun v2 g2 q2 => ?_)
  have e2 := q2.1
  subst e2
  have I2 := I.next q q2 ((sk_saves O).mono (by omega) (by omega))
  have nn := nx _ _ l5 l6 I2
  refine Wp.vc 400 [23] rfl ?_
  exact ⟨fun _ => ⟨⟨by omega, by omega⟩, nn⟩, fun w => absurd rfl w⟩
theorem law_c15 {d : Nat} {h0 h : XH} {s scr L n i : Int} {xs : Nat → Int} {S : XSt} {l5 l6 : Option XV} {Q : XO → XH → Prop} (I : LawI h0 s scr L n xs S h) (hi : i = 6 * n ∧ i + 6 ≤ L ∧ L ≤ 384) (nx : LawN d h0 s scr L n i xs Q) : Wp (d + 113) 297 755 [some (.inr (.inr scr)), some (.inr (.inr s)), some (.inr (.inr (s + 126))), some (.inr (.inr (s + 142))), some (.inl i), l5, l6] [] h Q := by
  obtain ⟨R, M0, O⟩ := I.1
  have n0 := O.2.2.2.2.2
  have n63 : n ≤ 63 := by omega
  have ts := R.2.1.2.1
  have tc := I.2.2.1.2.2.1
  refine Wp.vc 400 [] rfl ?_
  refine ⟨⟨by omega, by omega⟩, isA tc (by omega) (by omega), ⟨by omega, by omega⟩, isA tc (by omega) (by omega), ?_⟩
  refine Wp.callR (j := 0) rfl (Nat.le_of_ble_eq_true rfl) ⟨true, ts⟩ (xend (x_opFarthest R O)) (fun v1 g q => ?_)
  obtain ⟨M, C, tm, tc2, ar⟩ := I.mid q
  have e1 := q.1
  subst e1
  refine Wp.vc 400 [] rfl ?_
  rw [ar (i + 1) (by omega) (by omega), ar (i + 2) (by omega) (by omega)]
  refine ⟨⟨by omega, by omega⟩, isA tc2 (by omega) (by omega), ⟨by omega, by omega⟩, isA tc2 (by omega) (by omega), ?_⟩
  refine Wp.callR (j := 0) rfl (Nat.le_of_ble_eq_true rfl) ⟨true, tm⟩ (mend (m_opFarthest M O)) (fun v2 g2 q2 => ?_)
  have e2 := q2.1
  subst e2
  have I2 := I.next q q2 ((sk_farthest O).mono (by omega) (by omega))
  have nn := nx _ _ l5 l6 I2
  refine Wp.vc 400 [23] rfl ?_
  exact ⟨fun _ => ⟨⟨by omega, by omega⟩, nn⟩, fun w => absurd rfl w⟩
theorem law_c16 {d : Nat} {h0 h : XH} {s scr L n i : Int} {xs : Nat → Int} {S : XSt} {l5 l6 : Option XV} {Q : XO → XH → Prop} (I : LawI h0 s scr L n xs S h) (hi : i = 6 * n ∧ i + 6 ≤ L ∧ L ≤ 384) (nx : LawN d h0 s scr L n i xs Q) : Wp (d + 113) 297 792 [some (.inr (.inr scr)), some (.inr (.inr s)), some (.inr (.inr (s + 126))), some (.inr (.inr (s + 142))), some (.inl i), l5, l6] [] h Q := by
  obtain ⟨R, M0, O⟩ := I.1
  have n0 := O.2.2.2.2.2
  have n63 : n ≤ 63 := by omega
  have ts := R.2.1.2.1
  have tc := I.2.2.1.2.2.1
  refine Wp.vc 400 [] rfl ?_
  refine ⟨⟨by omega, by omega⟩, isA tc (by omega) (by omega), ?_⟩
  refine Wp.callR (j := 0) rfl (Nat.le_of_ble_eq_true rfl) ⟨true, ts⟩ (xend (x_opHomeIn R O)) (fun v1 g q => ?_)
  obtain ⟨M, C, tm, tc2, ar⟩ := I.mid q
  have e1 := q.1
  subst e1
  refine Wp.vc 400 [] rfl ?_
  rw [ar (i + 1) (by omega) (by omega)]
  refine ⟨⟨by omega, by omega⟩, isA tc2 (by omega) (by omega), ?_⟩
  refine Wp.callR (j := 0) rfl (Nat.le_of_ble_eq_true rfl) ⟨true, tm⟩ (mend (m_opHomeIn M O)) (fun v2 g2 q2 => ?_)
  have e2 := q2.1
  subst e2
  have I2 := I.next q q2 ((sk_homeIn O).mono (by omega) (by omega))
  have nn := nx _ _ l5 l6 I2
  refine Wp.vc 400 [23] rfl ?_
  exact ⟨fun _ => ⟨⟨by omega, by omega⟩, nn⟩, fun w => absurd rfl w⟩
theorem law_c17 {d : Nat} {h0 h : XH} {s scr L n i : Int} {xs : Nat → Int} {S : XSt} {l5 l6 : Option XV} {Q : XO → XH → Prop} (I : LawI h0 s scr L n xs S h) (hi : i = 6 * n ∧ i + 6 ≤ L ∧ L ≤ 384) (nx : LawN d h0 s scr L n i xs Q) : Wp (d + 113) 297 817 [some (.inr (.inr scr)), some (.inr (.inr s)), some (.inr (.inr (s + 126))), some (.inr (.inr (s + 142))), some (.inl i), l5, l6] [] h Q := by
  obtain ⟨R, M0, O⟩ := I.1
  have n0 := O.2.2.2.2.2
  have n63 : n ≤ 63 := by omega
  have ts := R.2.1.2.1
  have tc := I.2.2.1.2.2.1
  refine Wp.vc 400 [] rfl ?_
  refine Wp.callR (j := 0) rfl (Nat.le_of_ble_eq_true rfl) ⟨true, ts⟩ (xend (x_opFits R O)) (fun v1 g q => ?_)
  obtain ⟨M, C, tm, tc2, ar⟩ := I.mid q
  have e1 := q.1
  subst e1
  refine Wp.vc 400 [] rfl ?_
  refine Wp.callR (j := 0) rfl (Nat.le_of_ble_eq_true rfl) ⟨true, tm⟩ (mend (m_opFits M O)) (fun v2 g2 q2 => ?_)
  have e2 := q2.1
  subst e2
  have I2 := I.next q q2 ((sk_fits O).mono (by omega) (by omega))
  have nn := nx _ _ l5 l6 I2
  refine Wp.vc 400 [23] rfl ?_
  exact ⟨fun _ => ⟨⟨by omega, by omega⟩, nn⟩, fun w => absurd rfl w⟩
theorem law_c18 {d : Nat} {h0 h : XH} {s scr L n i : Int} {xs : Nat → Int} {S : XSt} {l5 l6 : Option XV} {Q : XO → XH → Prop} (I : LawI h0 s scr L n xs S h) (hi : i = 6 * n ∧ i + 6 ≤ L ∧ L ≤ 384) (nx : LawN d h0 s scr L n i xs Q) : Wp (d + 113) 297 830 [some (.inr (.inr scr)), some (.inr (.inr s)), some (.inr (.inr (s + 126))), some (.inr (.inr (s + 142))), some (.inl i), l5, l6] [] h Q := by
  obtain ⟨R, M0, O⟩ := I.1
  have n0 := O.2.2.2.2.2
  have n63 : n ≤ 63 := by omega
  have ts := R.2.1.2.1
  have tc := I.2.2.1.2.2.1
  refine Wp.vc 400 [] rfl ?_
  refine ⟨⟨by omega, by omega⟩, isA tc (by omega) (by omega), ?_⟩
  refine Wp.callR (j := 0) rfl (Nat.le_of_ble_eq_true rfl) ⟨true, ts⟩ (xend (x_opCould R O)) (fun v1 g q => ?_)
  obtain ⟨M, C, tm, tc2, ar⟩ := I.mid q
  have e1 := q.1
  subst e1
  refine Wp.vc 400 [] rfl ?_
  rw [ar (i + 1) (by omega) (by omega)]
  refine ⟨⟨by omega, by omega⟩, isA tc2 (by omega) (by omega), ?_⟩
  refine Wp.callR (j := 0) rfl (Nat.le_of_ble_eq_true rfl) ⟨true, tm⟩ (mend (m_opCould M O)) (fun v2 g2 q2 => ?_)
  have e2 := q2.1
  subst e2
  have I2 := I.next q q2 ((sk_could O).mono (by omega) (by omega))
  have nn := nx _ _ l5 l6 I2
  refine Wp.vc 400 [23] rfl ?_
  exact ⟨fun _ => ⟨⟨by omega, by omega⟩, nn⟩, fun w => absurd rfl w⟩
theorem law_c19 {d : Nat} {h0 h : XH} {s scr L n i : Int} {xs : Nat → Int} {S : XSt} {l5 l6 : Option XV} {Q : XO → XH → Prop} (I : LawI h0 s scr L n xs S h) (hi : i = 6 * n ∧ i + 6 ≤ L ∧ L ≤ 384) (nx : LawN d h0 s scr L n i xs Q) : Wp (d + 113) 297 855 [some (.inr (.inr scr)), some (.inr (.inr s)), some (.inr (.inr (s + 126))), some (.inr (.inr (s + 142))), some (.inl i), l5, l6] [] h Q := by
  obtain ⟨R, M0, O⟩ := I.1
  have n0 := O.2.2.2.2.2
  have n63 : n ≤ 63 := by omega
  have ts := R.2.1.2.1
  have tc := I.2.2.1.2.2.1
  refine Wp.vc 400 [] rfl ?_
  refine ⟨⟨by omega, by omega⟩, isA tc (by omega) (by omega), ?_⟩
  refine Wp.callR (j := 0) rfl (Nat.le_of_ble_eq_true rfl) ⟨true, ts⟩ (xend (x_opSurely R O)) (fun v1 g q => ?_)
  obtain ⟨M, C, tm, tc2, ar⟩ := I.mid q
  have e1 := q.1
  subst e1
  refine Wp.vc 400 [] rfl ?_
  rw [ar (i + 1) (by omega) (by omega)]
  refine ⟨⟨by omega, by omega⟩, isA tc2 (by omega) (by omega), ?_⟩
  refine Wp.callR (j := 0) rfl (Nat.le_of_ble_eq_true rfl) ⟨true, tm⟩ (mend (m_opSurely M O)) (fun v2 g2 q2 => ?_)
  have e2 := q2.1
  subst e2
  have I2 := I.next q q2 ((sk_surely O).mono (by omega) (by omega))
  have nn := nx _ _ l5 l6 I2
  refine Wp.vc 400 [23] rfl ?_
  exact ⟨fun _ => ⟨⟨by omega, by omega⟩, nn⟩, fun w => absurd rfl w⟩
theorem law_c20 {d : Nat} {h0 h : XH} {s scr L n i : Int} {xs : Nat → Int} {S : XSt} {l5 l6 : Option XV} {Q : XO → XH → Prop} (I : LawI h0 s scr L n xs S h) (hi : i = 6 * n ∧ i + 6 ≤ L ∧ L ≤ 384) (nx : LawN d h0 s scr L n i xs Q) : Wp (d + 113) 297 880 [some (.inr (.inr scr)), some (.inr (.inr s)), some (.inr (.inr (s + 126))), some (.inr (.inr (s + 142))), some (.inl i), l5, l6] [] h Q := by
  obtain ⟨R, M0, O⟩ := I.1
  have n0 := O.2.2.2.2.2
  have n63 : n ≤ 63 := by omega
  have ts := R.2.1.2.1
  have tc := I.2.2.1.2.2.1
  refine Wp.vc 400 [] rfl ?_
  refine ⟨⟨by omega, by omega⟩, isA tc (by omega) (by omega), ?_⟩
  refine Wp.callR (j := 0) rfl (Nat.le_of_ble_eq_true rfl) ⟨true, ts⟩ (xend (x_opFirstOf R O)) (fun v1 g q => ?_)
  obtain ⟨M, C, tm, tc2, ar⟩ := I.mid q
  have e1 := q.1
  subst e1
  refine Wp.vc 400 [] rfl ?_
  rw [ar (i + 1) (by omega) (by omega)]
  refine ⟨⟨by omega, by omega⟩, isA tc2 (by omega) (by omega), ?_⟩
  refine Wp.callR (j := 0) rfl (Nat.le_of_ble_eq_true rfl) ⟨true, tm⟩ (mend (m_opFirstOf M O)) (fun v2 g2 q2 => ?_)
  have e2 := q2.1
  subst e2
  have I2 := I.next q q2 ((sk_firstOf O).mono (by omega) (by omega))
  have nn := nx _ _ l5 l6 I2
  refine Wp.vc 400 [23] rfl ?_
  exact ⟨fun _ => ⟨⟨by omega, by omega⟩, nn⟩, fun w => absurd rfl w⟩
theorem law_c21 {d : Nat} {h0 h : XH} {s scr L n i : Int} {xs : Nat → Int} {S : XSt} {l5 l6 : Option XV} {Q : XO → XH → Prop} (I : LawI h0 s scr L n xs S h) (hi : i = 6 * n ∧ i + 6 ≤ L ∧ L ≤ 384) (nx : LawN d h0 s scr L n i xs Q) : Wp (d + 113) 297 905 [some (.inr (.inr scr)), some (.inr (.inr s)), some (.inr (.inr (s + 126))), some (.inr (.inr (s + 142))), some (.inl i), l5, l6] [] h Q := by
  obtain ⟨R, M0, O⟩ := I.1
  have n0 := O.2.2.2.2.2
  have n63 : n ≤ 63 := by omega
  have ts := R.2.1.2.1
  have tc := I.2.2.1.2.2.1
  refine Wp.vc 400 [] rfl ?_
  refine Wp.callR (j := 0) rfl (Nat.le_of_ble_eq_true rfl) ⟨true, ts⟩ (xend (x_opAsk R O)) (fun v1 g q => ?_)
  obtain ⟨M, C, tm, tc2, ar⟩ := I.mid q
  have e1 := q.1
  subst e1
  refine Wp.vc 400 [] rfl ?_
  refine Wp.callR (j := 0) rfl (Nat.le_of_ble_eq_true rfl) ⟨true, tm⟩ (mend (m_opAsk M O)) (fun v2 g2 q2 => ?_)
  have e2 := q2.1
  subst e2
  have I2 := I.next q q2 ((sk_ask O).mono (by omega) (by omega))
  have nn := nx _ _ l5 l6 I2
  refine Wp.vc 400 [23] rfl ?_
  exact ⟨fun _ => ⟨⟨by omega, by omega⟩, nn⟩, fun w => absurd rfl w⟩
theorem law_c22 {d : Nat} {h0 h : XH} {s scr L n i : Int} {xs : Nat → Int} {S : XSt} {l5 l6 : Option XV} {Q : XO → XH → Prop} (I : LawI h0 s scr L n xs S h) (hi : i = 6 * n ∧ i + 6 ≤ L ∧ L ≤ 384) (nx : LawN d h0 s scr L n i xs Q) : Wp (d + 113) 297 918 [some (.inr (.inr scr)), some (.inr (.inr s)), some (.inr (.inr (s + 126))), some (.inr (.inr (s + 142))), some (.inl i), l5, l6] [] h Q := by
  obtain ⟨R, M0, O⟩ := I.1
  have n0 := O.2.2.2.2.2
  have n63 : n ≤ 63 := by omega
  have ts := R.2.1.2.1
  have tc := I.2.2.1.2.2.1
  refine Wp.vc 400 [] rfl ?_
  refine Wp.callR (j := 0) rfl (Nat.le_of_ble_eq_true rfl) ⟨true, ts⟩ (xend (x_opAskLeaves R O)) (fun v1 g q => ?_)
  obtain ⟨M, C, tm, tc2, ar⟩ := I.mid q
  have e1 := q.1
  subst e1
  refine Wp.vc 400 [] rfl ?_
  refine Wp.callR (j := 0) rfl (Nat.le_of_ble_eq_true rfl) ⟨true, tm⟩ (mend (m_opAskLeaves M O)) (fun v2 g2 q2 => ?_)
  have e2 := q2.1
  subst e2
  have I2 := I.next q q2 ((sk_askLeaves O).mono (by omega) (by omega))
  have nn := nx _ _ l5 l6 I2
  refine Wp.vc 400 [23] rfl ?_
  exact ⟨fun _ => ⟨⟨by omega, by omega⟩, nn⟩, fun w => absurd rfl w⟩
theorem law_c23 {d : Nat} {h0 h : XH} {s scr L n i : Int} {xs : Nat → Int} {S : XSt} {l5 l6 : Option XV} {Q : XO → XH → Prop} (I : LawI h0 s scr L n xs S h) (hi : i = 6 * n ∧ i + 6 ≤ L ∧ L ≤ 384) (nx : LawN d h0 s scr L n i xs Q) : Wp (d + 113) 297 931 [some (.inr (.inr scr)), some (.inr (.inr s)), some (.inr (.inr (s + 126))), some (.inr (.inr (s + 142))), some (.inl i), l5, l6] [] h Q := by
  obtain ⟨R, M0, O⟩ := I.1
  have n0 := O.2.2.2.2.2
  have n63 : n ≤ 63 := by omega
  have ts := R.2.1.2.1
  have tc := I.2.2.1.2.2.1
  by_cases c : xar h scr (i + 2) = 0
  · skip
    refine Wp.vc 400 [] rfl ?_
    refine ⟨⟨by omega, by omega⟩, isA tc (by omega) (by omega), ⟨by omega, by omega⟩, isA tc (by omega) (by omega), fun _ => ?_, fun w => absurd c w⟩
    refine Wp.callR (j := 0) rfl (Nat.le_of_ble_eq_true rfl) ⟨true, ts⟩ (xend (x_opOwes R O)) (fun v1 g q => ?_)
    obtain ⟨M, C, tm, tc2, ar⟩ := I.mid q
    have e1 := q.1
    subst e1
    refine Wp.vc 400 [] rfl ?_
    rw [ar (i + 1) (by omega) (by omega), ar (i + 2) (by omega) (by omega)]
    refine ⟨⟨by omega, by omega⟩, isA tc2 (by omega) (by omega), ⟨by omega, by omega⟩, isA tc2 (by omega) (by omega), fun _ => ?_, fun w => absurd c w⟩
    refine Wp.callR (j := 0) rfl (Nat.le_of_ble_eq_true rfl) ⟨true, tm⟩ (mend (m_opOwes M O)) (fun v2 g2 q2 => ?_)
    have e2 := q2.1
    subst e2
    have I2 := I.next q q2 ((sk_owes O).mono (by omega) (by omega))
    have nn := nx _ _ l5 l6 I2
    refine Wp.vc 400 [23] rfl ?_
    exact ⟨fun _ => ⟨⟨by omega, by omega⟩, nn⟩, fun w => absurd (xcmp_self _) w⟩
  · skip
    refine Wp.vc 400 [] rfl ?_
    refine ⟨⟨by omega, by omega⟩, isA tc (by omega) (by omega), ⟨by omega, by omega⟩, isA tc (by omega) (by omega), fun w => absurd w c, fun _ => ?_⟩
    refine Wp.callR (j := 0) rfl (Nat.le_of_ble_eq_true rfl) ⟨true, ts⟩ (xend (x_opOwes R O)) (fun v1 g q => ?_)
    obtain ⟨M, C, tm, tc2, ar⟩ := I.mid q
    have e1 := q.1
    subst e1
    refine Wp.vc 400 [] rfl ?_
    rw [ar (i + 1) (by omega) (by omega), ar (i + 2) (by omega) (by omega)]
    refine ⟨⟨by omega, by omega⟩, isA tc2 (by omega) (by omega), ⟨by omega, by omega⟩, isA tc2 (by omega) (by omega), fun w => absurd w c, fun _ => ?_⟩
    refine Wp.callR (j := 0) rfl (Nat.le_of_ble_eq_true rfl) ⟨true, tm⟩ (mend (m_opOwes M O)) (fun v2 g2 q2 => ?_)
    have e2 := q2.1
    subst e2
    have I2 := I.next q q2 ((sk_owes O).mono (by omega) (by omega))
    have nn := nx _ _ l5 l6 I2
    refine Wp.vc 400 [23] rfl ?_
    exact ⟨fun _ => ⟨⟨by omega, by omega⟩, nn⟩, fun w => absurd (xcmp_self _) w⟩
theorem law_c24 {d : Nat} {h0 h : XH} {s scr L n i : Int} {xs : Nat → Int} {S : XSt} {l5 l6 : Option XV} {Q : XO → XH → Prop} (I : LawI h0 s scr L n xs S h) (hi : i = 6 * n ∧ i + 6 ≤ L ∧ L ≤ 384) (nx : LawN d h0 s scr L n i xs Q) : Wp (d + 113) 297 985 [some (.inr (.inr scr)), some (.inr (.inr s)), some (.inr (.inr (s + 126))), some (.inr (.inr (s + 142))), some (.inl i), l5, l6] [] h Q := by
  obtain ⟨R, M0, O⟩ := I.1
  have n0 := O.2.2.2.2.2
  have n63 : n ≤ 63 := by omega
  have ts := R.2.1.2.1
  have tc := I.2.2.1.2.2.1
  by_cases c : xar h scr (i + 2) = 0
  · skip
    refine Wp.vc 400 [] rfl ?_
    refine ⟨⟨by omega, by omega⟩, isA tc (by omega) (by omega), ⟨by omega, by omega⟩, isA tc (by omega) (by omega), fun _ => ?_, fun w => absurd c w⟩
    refine Wp.callR (j := 0) rfl (Nat.le_of_ble_eq_true rfl) ⟨true, ts⟩ (xend (x_opNet R O)) (fun v1 g q => ?_)
    obtain ⟨M, C, tm, tc2, ar⟩ := I.mid q
    have e1 := q.1
    subst e1
    refine Wp.vc 400 [] rfl ?_
    rw [ar (i + 1) (by omega) (by omega), ar (i + 2) (by omega) (by omega)]
    refine ⟨⟨by omega, by omega⟩, isA tc2 (by omega) (by omega), ⟨by omega, by omega⟩, isA tc2 (by omega) (by omega), fun _ => ?_, fun w => absurd c w⟩
    refine Wp.callR (j := 0) rfl (Nat.le_of_ble_eq_true rfl) ⟨true, tm⟩ (mend (m_opNet M O)) (fun v2 g2 q2 => ?_)
    have e2 := q2.1
    subst e2
    have I2 := I.next q q2 ((sk_net O).mono (by omega) (by omega))
    have nn := nx _ _ l5 l6 I2
    refine Wp.vc 400 [23] rfl ?_
    exact ⟨fun _ => ⟨⟨by omega, by omega⟩, nn⟩, fun w => absurd (xcmp_self _) w⟩
  · skip
    refine Wp.vc 400 [] rfl ?_
    refine ⟨⟨by omega, by omega⟩, isA tc (by omega) (by omega), ⟨by omega, by omega⟩, isA tc (by omega) (by omega), fun w => absurd w c, fun _ => ?_⟩
    refine Wp.callR (j := 0) rfl (Nat.le_of_ble_eq_true rfl) ⟨true, ts⟩ (xend (x_opNet R O)) (fun v1 g q => ?_)
    obtain ⟨M, C, tm, tc2, ar⟩ := I.mid q
    have e1 := q.1
    subst e1
    refine Wp.vc 400 [] rfl ?_
    rw [ar (i + 1) (by omega) (by omega), ar (i + 2) (by omega) (by omega)]
    refine ⟨⟨by omega, by omega⟩, isA tc2 (by omega) (by omega), ⟨by omega, by omega⟩, isA tc2 (by omega) (by omega), fun w => absurd w c, fun _ => ?_⟩
    refine Wp.callR (j := 0) rfl (Nat.le_of_ble_eq_true rfl) ⟨true, tm⟩ (mend (m_opNet M O)) (fun v2 g2 q2 => ?_)
    have e2 := q2.1
    subst e2
    have I2 := I.next q q2 ((sk_net O).mono (by omega) (by omega))
    have nn := nx _ _ l5 l6 I2
    refine Wp.vc 400 [23] rfl ?_
    exact ⟨fun _ => ⟨⟨by omega, by omega⟩, nn⟩, fun w => absurd (xcmp_self _) w⟩
theorem law_c25 {d : Nat} {h0 h : XH} {s scr L n i : Int} {xs : Nat → Int} {S : XSt} {l5 l6 : Option XV} {Q : XO → XH → Prop} (I : LawI h0 s scr L n xs S h) (hi : i = 6 * n ∧ i + 6 ≤ L ∧ L ≤ 384) (nx : LawN d h0 s scr L n i xs Q) : Wp (d + 113) 297 1039 [some (.inr (.inr scr)), some (.inr (.inr s)), some (.inr (.inr (s + 126))), some (.inr (.inr (s + 142))), some (.inl i), l5, l6] [] h Q := by
  obtain ⟨R, M0, O⟩ := I.1
  have n0 := O.2.2.2.2.2
  have n63 : n ≤ 63 := by omega
  have ts := R.2.1.2.1
  have tc := I.2.2.1.2.2.1
  refine Wp.vc 400 [] rfl ?_
  refine Wp.callR (j := 0) rfl (Nat.le_of_ble_eq_true rfl) ⟨true, ts⟩ (xend (x_opDebtor R O)) (fun v1 g q => ?_)
  obtain ⟨M, C, tm, tc2, ar⟩ := I.mid q
  have e1 := q.1
  subst e1
  refine Wp.vc 400 [] rfl ?_
  refine Wp.callR (j := 0) rfl (Nat.le_of_ble_eq_true rfl) ⟨true, tm⟩ (mend (m_opDebtor M O)) (fun v2 g2 q2 => ?_)
  have e2 := q2.1
  subst e2
  have I2 := I.next q q2 ((sk_debtor O).mono (by omega) (by omega))
  have nn := nx _ _ l5 l6 I2
  refine Wp.vc 400 [23] rfl ?_
  exact ⟨fun _ => ⟨⟨by omega, by omega⟩, nn⟩, fun w => absurd rfl w⟩
theorem law_c26 {d : Nat} {h0 h : XH} {s scr L n i : Int} {xs : Nat → Int} {S : XSt} {l5 l6 : Option XV} {Q : XO → XH → Prop} (I : LawI h0 s scr L n xs S h) (hi : i = 6 * n ∧ i + 6 ≤ L ∧ L ≤ 384) (nx : LawN d h0 s scr L n i xs Q) : Wp (d + 113) 297 1052 [some (.inr (.inr scr)), some (.inr (.inr s)), some (.inr (.inr (s + 126))), some (.inr (.inr (s + 142))), some (.inl i), l5, l6] [] h Q := by
  obtain ⟨R, M0, O⟩ := I.1
  have n0 := O.2.2.2.2.2
  have n63 : n ≤ 63 := by omega
  have ts := R.2.1.2.1
  have tc := I.2.2.1.2.2.1
  refine Wp.vc 400 [] rfl ?_
  refine Wp.callR (j := 0) rfl (Nat.le_of_ble_eq_true rfl) ⟨true, ts⟩ (xend (x_opPaired R O)) (fun v1 g q => ?_)
  obtain ⟨M, C, tm, tc2, ar⟩ := I.mid q
  have e1 := q.1
  subst e1
  refine Wp.vc 400 [] rfl ?_
  refine Wp.callR (j := 0) rfl (Nat.le_of_ble_eq_true rfl) ⟨true, tm⟩ (mend (m_opPaired M O)) (fun v2 g2 q2 => ?_)
  have e2 := q2.1
  subst e2
  have I2 := I.next q q2 ((sk_paired O).mono (by omega) (by omega))
  have nn := nx _ _ l5 l6 I2
  refine Wp.vc 400 [23] rfl ?_
  exact ⟨fun _ => ⟨⟨by omega, by omega⟩, nn⟩, fun w => absurd rfl w⟩
theorem law_c27 {d : Nat} {h0 h : XH} {s scr L n i : Int} {xs : Nat → Int} {S : XSt} {l5 l6 : Option XV} {Q : XO → XH → Prop} (I : LawI h0 s scr L n xs S h) (hi : i = 6 * n ∧ i + 6 ≤ L ∧ L ≤ 384) (nx : LawN d h0 s scr L n i xs Q) : Wp (d + 113) 297 1065 [some (.inr (.inr scr)), some (.inr (.inr s)), some (.inr (.inr (s + 126))), some (.inr (.inr (s + 142))), some (.inl i), l5, l6] [] h Q := by
  obtain ⟨R, M0, O⟩ := I.1
  have n0 := O.2.2.2.2.2
  have n63 : n ≤ 63 := by omega
  have ts := R.2.1.2.1
  have tc := I.2.2.1.2.2.1
  refine Wp.vc 400 [] rfl ?_
  refine Wp.callR (j := 0) rfl (Nat.le_of_ble_eq_true rfl) ⟨true, ts⟩ (xend (x_opFewest R O)) (fun v1 g q => ?_)
  obtain ⟨M, C, tm, tc2, ar⟩ := I.mid q
  have e1 := q.1
  subst e1
  refine Wp.vc 400 [] rfl ?_
  refine Wp.callR (j := 0) rfl (Nat.le_of_ble_eq_true rfl) ⟨true, tm⟩ (mend (m_opFewest M O)) (fun v2 g2 q2 => ?_)
  have e2 := q2.1
  subst e2
  have I2 := I.next q q2 ((sk_fewest O).mono (by omega) (by omega))
  have nn := nx _ _ l5 l6 I2
  refine Wp.vc 400 [23] rfl ?_
  exact ⟨fun _ => ⟨⟨by omega, by omega⟩, nn⟩, fun w => absurd rfl w⟩
theorem law_c28 {d : Nat} {h0 h : XH} {s scr L n i : Int} {xs : Nat → Int} {S : XSt} {l5 l6 : Option XV} {Q : XO → XH → Prop} (I : LawI h0 s scr L n xs S h) (hi : i = 6 * n ∧ i + 6 ≤ L ∧ L ≤ 384) (nx : LawN d h0 s scr L n i xs Q) : Wp (d + 113) 297 1078 [some (.inr (.inr scr)), some (.inr (.inr s)), some (.inr (.inr (s + 126))), some (.inr (.inr (s + 142))), some (.inl i), l5, l6] [] h Q := by
  obtain ⟨R, M0, O⟩ := I.1
  have n0 := O.2.2.2.2.2
  have n63 : n ≤ 63 := by omega
  have ts := R.2.1.2.1
  have tc := I.2.2.1.2.2.1
  refine Wp.vc 400 [] rfl ?_
  refine ⟨⟨by omega, by omega⟩, isA tc (by omega) (by omega), ?_⟩
  refine Wp.callR (j := 0) rfl (Nat.le_of_ble_eq_true rfl) ⟨true, ts⟩ (xend (x_opExchangeAt R O)) (fun v1 g q => ?_)
  obtain ⟨M, C, tm, tc2, ar⟩ := I.mid q
  have e1 := q.1
  subst e1
  refine Wp.vc 400 [] rfl ?_
  rw [ar (i + 1) (by omega) (by omega)]
  refine ⟨⟨by omega, by omega⟩, isA tc2 (by omega) (by omega), ?_⟩
  refine Wp.callR (j := 0) rfl (Nat.le_of_ble_eq_true rfl) ⟨true, tm⟩ (mend (m_opExchangeAt M O)) (fun v2 g2 q2 => ?_)
  have e2 := q2.1
  subst e2
  have I2 := I.next q q2 ((sk_exchangeAt O).mono (by omega) (by omega))
  have nn := nx _ _ l5 l6 I2
  refine Wp.vc 400 [23] rfl ?_
  exact ⟨fun _ => ⟨⟨by omega, by omega⟩, nn⟩, fun w => absurd rfl w⟩
theorem law_c29 {d : Nat} {h0 h : XH} {s scr L n i : Int} {xs : Nat → Int} {S : XSt} {l5 l6 : Option XV} {Q : XO → XH → Prop} (I : LawI h0 s scr L n xs S h) (hi : i = 6 * n ∧ i + 6 ≤ L ∧ L ≤ 384) (nx : LawN d h0 s scr L n i xs Q) : Wp (d + 113) 297 1103 [some (.inr (.inr scr)), some (.inr (.inr s)), some (.inr (.inr (s + 126))), some (.inr (.inr (s + 142))), some (.inl i), l5, l6] [] h Q := by
  obtain ⟨R, M0, O⟩ := I.1
  have n0 := O.2.2.2.2.2
  have n63 : n ≤ 63 := by omega
  have ts := R.2.1.2.1
  have tc := I.2.2.1.2.2.1
  refine Wp.vc 400 [] rfl ?_
  refine ⟨⟨by omega, by omega⟩, isA tc (by omega) (by omega), ?_⟩
  refine Wp.callR (j := 0) rfl (Nat.le_of_ble_eq_true rfl) ⟨true, ts⟩ (xend (x_opStands R O)) (fun v1 g q => ?_)
  obtain ⟨M, C, tm, tc2, ar⟩ := I.mid q
  have e1 := q.1
  subst e1
  refine Wp.vc 400 [] rfl ?_
  rw [ar (i + 1) (by omega) (by omega)]
  refine ⟨⟨by omega, by omega⟩, isA tc2 (by omega) (by omega), ?_⟩
  refine Wp.callR (j := 0) rfl (Nat.le_of_ble_eq_true rfl) ⟨true, tm⟩ (mend (m_opStands M O)) (fun v2 g2 q2 => ?_)
  have e2 := q2.1
  subst e2
  have I2 := I.next q q2 ((sk_stands O).mono (by omega) (by omega))
  have nn := nx _ _ l5 l6 I2
  refine Wp.vc 400 [23] rfl ?_
  exact ⟨fun _ => ⟨⟨by omega, by omega⟩, nn⟩, fun w => absurd rfl w⟩
theorem law_c30 {d : Nat} {h0 h : XH} {s scr L n i : Int} {xs : Nat → Int} {S : XSt} {l5 l6 : Option XV} {Q : XO → XH → Prop} (I : LawI h0 s scr L n xs S h) (hi : i = 6 * n ∧ i + 6 ≤ L ∧ L ≤ 384) (nx : LawN d h0 s scr L n i xs Q) : Wp (d + 113) 297 1128 [some (.inr (.inr scr)), some (.inr (.inr s)), some (.inr (.inr (s + 126))), some (.inr (.inr (s + 142))), some (.inl i), l5, l6] [] h Q := by
  obtain ⟨R, M0, O⟩ := I.1
  have n0 := O.2.2.2.2.2
  have n63 : n ≤ 63 := by omega
  have ts := R.2.1.2.1
  have tc := I.2.2.1.2.2.1
  by_cases c : xar h scr (i + 5) = 0
  · skip
    refine Wp.vc 400 [] rfl ?_
    refine ⟨⟨by omega, by omega⟩, isA tc (by omega) (by omega), ⟨by omega, by omega⟩, isA tc (by omega) (by omega), ⟨by omega, by omega⟩, isA tc (by omega) (by omega), ⟨by omega, by omega⟩, isA tc (by omega) (by omega), ⟨by omega, by omega⟩, isA tc (by omega) (by omega), fun _ => ?_, fun w => absurd c w⟩
    refine Wp.callR (j := 0) rfl (Nat.le_of_ble_eq_true rfl) ⟨true, ts⟩ (xend (x_opGain R O)) (fun v1 g q => ?_)
    obtain ⟨M, C, tm, tc2, ar⟩ := I.mid q
    have e1 := q.1
    subst e1
    refine Wp.vc 400 [] rfl ?_
    rw [ar (i + 1) (by omega) (by omega), ar (i + 2) (by omega) (by omega), ar (i + 3) (by omega) (by omega), ar (i + 4) (by omega) (by omega), ar (i + 5) (by omega) (by omega)]
    refine ⟨⟨by omega, by omega⟩, isA tc2 (by omega) (by omega), ⟨by omega, by omega⟩, isA tc2 (by omega) (by omega), ⟨by omega, by omega⟩, isA tc2 (by omega) (by omega), ⟨by omega, by omega⟩, isA tc2 (by omega) (by omega), ⟨by omega, by omega⟩, isA tc2 (by omega) (by omega), fun _ => ?_, fun w => absurd c w⟩
    refine Wp.callR (j := 0) rfl (Nat.le_of_ble_eq_true rfl) ⟨true, tm⟩ (mend (m_opGain M O)) (fun v2 g2 q2 => ?_)
    have e2 := q2.1
    subst e2
    have I2 := I.next q q2 ((sk_gain O).mono (by omega) (by omega))
    have nn := nx _ _ l5 l6 I2
    refine Wp.vc 400 [23] rfl ?_
    exact ⟨fun _ => ⟨⟨by omega, by omega⟩, nn⟩, fun w => absurd rfl w⟩
  · skip
    refine Wp.vc 400 [] rfl ?_
    refine ⟨⟨by omega, by omega⟩, isA tc (by omega) (by omega), ⟨by omega, by omega⟩, isA tc (by omega) (by omega), ⟨by omega, by omega⟩, isA tc (by omega) (by omega), ⟨by omega, by omega⟩, isA tc (by omega) (by omega), ⟨by omega, by omega⟩, isA tc (by omega) (by omega), fun w => absurd w c, fun _ => ?_⟩
    refine Wp.callR (j := 0) rfl (Nat.le_of_ble_eq_true rfl) ⟨true, ts⟩ (xend (x_opGain R O)) (fun v1 g q => ?_)
    obtain ⟨M, C, tm, tc2, ar⟩ := I.mid q
    have e1 := q.1
    subst e1
    refine Wp.vc 400 [] rfl ?_
    rw [ar (i + 1) (by omega) (by omega), ar (i + 2) (by omega) (by omega), ar (i + 3) (by omega) (by omega), ar (i + 4) (by omega) (by omega), ar (i + 5) (by omega) (by omega)]
    refine ⟨⟨by omega, by omega⟩, isA tc2 (by omega) (by omega), ⟨by omega, by omega⟩, isA tc2 (by omega) (by omega), ⟨by omega, by omega⟩, isA tc2 (by omega) (by omega), ⟨by omega, by omega⟩, isA tc2 (by omega) (by omega), ⟨by omega, by omega⟩, isA tc2 (by omega) (by omega), fun w => absurd w c, fun _ => ?_⟩
    refine Wp.callR (j := 0) rfl (Nat.le_of_ble_eq_true rfl) ⟨true, tm⟩ (mend (m_opGain M O)) (fun v2 g2 q2 => ?_)
    have e2 := q2.1
    subst e2
    have I2 := I.next q q2 ((sk_gain O).mono (by omega) (by omega))
    have nn := nx _ _ l5 l6 I2
    refine Wp.vc 400 [23] rfl ?_
    exact ⟨fun _ => ⟨⟨by omega, by omega⟩, nn⟩, fun w => absurd rfl w⟩
theorem law_c31 {d : Nat} {h0 h : XH} {s scr L n i : Int} {xs : Nat → Int} {S : XSt} {l5 l6 : Option XV} {Q : XO → XH → Prop} (I : LawI h0 s scr L n xs S h) (hi : i = 6 * n ∧ i + 6 ≤ L ∧ L ≤ 384) (nx : LawN d h0 s scr L n i xs Q) : Wp (d + 113) 297 1217 [some (.inr (.inr scr)), some (.inr (.inr s)), some (.inr (.inr (s + 126))), some (.inr (.inr (s + 142))), some (.inl i), l5, l6] [] h Q := by
  obtain ⟨R, M0, O⟩ := I.1
  have n0 := O.2.2.2.2.2
  have n63 : n ≤ 63 := by omega
  have ts := R.2.1.2.1
  have tc := I.2.2.1.2.2.1
  refine Wp.vc 400 [] rfl ?_
  refine ⟨⟨by omega, by omega⟩, isA tc (by omega) (by omega), ⟨by omega, by omega⟩, isA tc (by omega) (by omega), ?_⟩
  refine Wp.callR (j := 0) rfl (Nat.le_of_ble_eq_true rfl) ⟨true, ts⟩ (xend (x_opRests R O)) (fun v1 g q => ?_)
  obtain ⟨M, C, tm, tc2, ar⟩ := I.mid q
  have e1 := q.1
  subst e1
  refine Wp.vc 400 [] rfl ?_
  rw [ar (i + 1) (by omega) (by omega), ar (i + 2) (by omega) (by omega)]
  refine ⟨⟨by omega, by omega⟩, isA tc2 (by omega) (by omega), ⟨by omega, by omega⟩, isA tc2 (by omega) (by omega), ?_⟩
  refine Wp.callR (j := 0) rfl (Nat.le_of_ble_eq_true rfl) ⟨true, tm⟩ (mend (m_opRests M O)) (fun v2 g2 q2 => ?_)
  have e2 := q2.1
  subst e2
  have I2 := I.next q q2 ((sk_rests O).mono (by omega) (by omega))
  have nn := nx _ _ l5 l6 I2
  refine Wp.vc 400 [23] rfl ?_
  exact ⟨fun _ => ⟨⟨by omega, by omega⟩, nn⟩, fun w => absurd rfl w⟩
theorem law_c32 {d : Nat} {h0 h : XH} {s scr L n i : Int} {xs : Nat → Int} {S : XSt} {l5 l6 : Option XV} {Q : XO → XH → Prop} (I : LawI h0 s scr L n xs S h) (hi : i = 6 * n ∧ i + 6 ≤ L ∧ L ≤ 384) (nx : LawN d h0 s scr L n i xs Q) : Wp (d + 113) 297 1254 [some (.inr (.inr scr)), some (.inr (.inr s)), some (.inr (.inr (s + 126))), some (.inr (.inr (s + 142))), some (.inl i), l5, l6] [] h Q := by
  obtain ⟨R, M0, O⟩ := I.1
  have n0 := O.2.2.2.2.2
  have n63 : n ≤ 63 := by omega
  have ts := R.2.1.2.1
  have tc := I.2.2.1.2.2.1
  refine Wp.vc 400 [] rfl ?_
  refine ⟨⟨by omega, by omega⟩, isA tc (by omega) (by omega), ⟨by omega, by omega⟩, isA tc (by omega) (by omega), ?_⟩
  refine Wp.callR (j := 0) rfl (Nat.le_of_ble_eq_true rfl) ⟨true, ts⟩ (xend (x_opRest R O)) (fun v1 g q => ?_)
  obtain ⟨M, C, tm, tc2, ar⟩ := I.mid q
  have e1 := q.1
  subst e1
  refine Wp.vc 400 [] rfl ?_
  rw [ar (i + 1) (by omega) (by omega), ar (i + 2) (by omega) (by omega)]
  refine ⟨⟨by omega, by omega⟩, isA tc2 (by omega) (by omega), ⟨by omega, by omega⟩, isA tc2 (by omega) (by omega), ?_⟩
  refine Wp.callR (j := 0) rfl (Nat.le_of_ble_eq_true rfl) ⟨true, tm⟩ (mend (m_opRest M O)) (fun v2 g2 q2 => ?_)
  have e2 := q2.1
  subst e2
  have I2 := I.next q q2 ((sk_rest O).mono (by omega) (by omega))
  have nn := nx _ _ l5 l6 I2
  refine Wp.vc 400 [23] rfl ?_
  exact ⟨fun _ => ⟨⟨by omega, by omega⟩, nn⟩, fun w => absurd rfl w⟩
theorem law_c33 {d : Nat} {h0 h : XH} {s scr L n i : Int} {xs : Nat → Int} {S : XSt} {l5 l6 : Option XV} {Q : XO → XH → Prop} (I : LawI h0 s scr L n xs S h) (hi : i = 6 * n ∧ i + 6 ≤ L ∧ L ≤ 384) (nx : LawN d h0 s scr L n i xs Q) : Wp (d + 113) 297 1291 [some (.inr (.inr scr)), some (.inr (.inr s)), some (.inr (.inr (s + 126))), some (.inr (.inr (s + 142))), some (.inl i), l5, l6] [] h Q := by
  obtain ⟨R, M0, O⟩ := I.1
  have n0 := O.2.2.2.2.2
  have n63 : n ≤ 63 := by omega
  have ts := R.2.1.2.1
  have tc := I.2.2.1.2.2.1
  refine Wp.vc 400 [] rfl ?_
  refine ⟨⟨by omega, by omega⟩, isA tc (by omega) (by omega), ⟨by omega, by omega⟩, isA tc (by omega) (by omega), ?_⟩
  refine Wp.callR (j := 0) rfl (Nat.le_of_ble_eq_true rfl) ⟨true, ts⟩ (xend (x_opBuilders R O)) (fun v1 g q => ?_)
  obtain ⟨M, C, tm, tc2, ar⟩ := I.mid q
  have e1 := q.1
  subst e1
  refine Wp.vc 400 [] rfl ?_
  rw [ar (i + 1) (by omega) (by omega), ar (i + 2) (by omega) (by omega)]
  refine ⟨⟨by omega, by omega⟩, isA tc2 (by omega) (by omega), ⟨by omega, by omega⟩, isA tc2 (by omega) (by omega), ?_⟩
  refine Wp.callR (j := 0) rfl (Nat.le_of_ble_eq_true rfl) ⟨true, tm⟩ (mend (m_opBuilders M O)) (fun v2 g2 q2 => ?_)
  have e2 := q2.1
  subst e2
  have I2 := I.next q q2 ((sk_builders O).mono (by omega) (by omega))
  have nn := nx _ _ l5 l6 I2
  refine Wp.vc 400 [23] rfl ?_
  exact ⟨fun _ => ⟨⟨by omega, by omega⟩, nn⟩, fun w => absurd rfl w⟩
theorem law_c34 {d : Nat} {h0 h : XH} {s scr L n i : Int} {xs : Nat → Int} {S : XSt} {l5 l6 : Option XV} {Q : XO → XH → Prop} (I : LawI h0 s scr L n xs S h) (hi : i = 6 * n ∧ i + 6 ≤ L ∧ L ≤ 384) (nx : LawN d h0 s scr L n i xs Q) : Wp (d + 113) 297 1328 [some (.inr (.inr scr)), some (.inr (.inr s)), some (.inr (.inr (s + 126))), some (.inr (.inr (s + 142))), some (.inl i), l5, l6] [] h Q := by
  obtain ⟨R, M0, O⟩ := I.1
  have n0 := O.2.2.2.2.2
  have n63 : n ≤ 63 := by omega
  have ts := R.2.1.2.1
  have tc := I.2.2.1.2.2.1
  refine Wp.vc 400 [] rfl ?_
  refine ⟨⟨by omega, by omega⟩, isA tc (by omega) (by omega), ⟨by omega, by omega⟩, isA tc (by omega) (by omega), ⟨by omega, by omega⟩, isA tc (by omega) (by omega), ?_⟩
  refine Wp.callR (j := 0) rfl (Nat.le_of_ble_eq_true rfl) ⟨true, ts⟩ (xend (x_opBuiltOf R O)) (fun v1 g q => ?_)
  obtain ⟨M, C, tm, tc2, ar⟩ := I.mid q
  have e1 := q.1
  subst e1
  refine Wp.vc 400 [] rfl ?_
  rw [ar (i + 1) (by omega) (by omega), ar (i + 2) (by omega) (by omega), ar (i + 3) (by omega) (by omega)]
  refine ⟨⟨by omega, by omega⟩, isA tc2 (by omega) (by omega), ⟨by omega, by omega⟩, isA tc2 (by omega) (by omega), ⟨by omega, by omega⟩, isA tc2 (by omega) (by omega), ?_⟩
  refine Wp.callR (j := 0) rfl (Nat.le_of_ble_eq_true rfl) ⟨true, tm⟩ (mend (m_opBuiltOf M O)) (fun v2 g2 q2 => ?_)
  have e2 := q2.1
  subst e2
  have I2 := I.next q q2 ((sk_builtOf O).mono (by omega) (by omega))
  have nn := nx _ _ l5 l6 I2
  refine Wp.vc 400 [23] rfl ?_
  exact ⟨fun _ => ⟨⟨by omega, by omega⟩, nn⟩, fun w => absurd rfl w⟩
theorem law_c35 {d : Nat} {h0 h : XH} {s scr L n i : Int} {xs : Nat → Int} {S : XSt} {l5 l6 : Option XV} {Q : XO → XH → Prop} (I : LawI h0 s scr L n xs S h) (hi : i = 6 * n ∧ i + 6 ≤ L ∧ L ≤ 384) (nx : LawN d h0 s scr L n i xs Q) : Wp (d + 113) 297 1377 [some (.inr (.inr scr)), some (.inr (.inr s)), some (.inr (.inr (s + 126))), some (.inr (.inr (s + 142))), some (.inl i), l5, l6] [] h Q := by
  obtain ⟨R, M0, O⟩ := I.1
  have n0 := O.2.2.2.2.2
  have n63 : n ≤ 63 := by omega
  have ts := R.2.1.2.1
  have tc := I.2.2.1.2.2.1
  refine Wp.vc 400 [] rfl ?_
  refine ⟨⟨by omega, by omega⟩, isA tc (by omega) (by omega), ⟨by omega, by omega⟩, isA tc (by omega) (by omega), ?_⟩
  refine Wp.callR (j := 0) rfl (Nat.le_of_ble_eq_true rfl) ⟨true, ts⟩ (xend (x_opExchange R O)) (fun v1 g q => ?_)
  obtain ⟨M, C, tm, tc2, ar⟩ := I.mid q
  have e1 := q.1
  subst e1
  refine Wp.vc 400 [] rfl ?_
  rw [ar (i + 1) (by omega) (by omega), ar (i + 2) (by omega) (by omega)]
  refine ⟨⟨by omega, by omega⟩, isA tc2 (by omega) (by omega), ⟨by omega, by omega⟩, isA tc2 (by omega) (by omega), ?_⟩
  refine Wp.callR (j := 0) rfl (Nat.le_of_ble_eq_true rfl) ⟨true, tm⟩ (mend (m_opExchange M O)) (fun v2 g2 q2 => ?_)
  have e2 := q2.1
  subst e2
  have I2 := I.next q q2 ((sk_exchange O).mono (by omega) (by omega))
  have nn := nx _ _ l5 l6 I2
  refine Wp.vc 400 [23] rfl ?_
  exact ⟨fun _ => ⟨⟨by omega, by omega⟩, nn⟩, fun w => absurd rfl w⟩
theorem law_c36 {d : Nat} {h0 h : XH} {s scr L n i : Int} {xs : Nat → Int} {S : XSt} {l5 l6 : Option XV} {Q : XO → XH → Prop} (I : LawI h0 s scr L n xs S h) (hi : i = 6 * n ∧ i + 6 ≤ L ∧ L ≤ 384) (nx : LawN d h0 s scr L n i xs Q) : Wp (d + 113) 297 1414 [some (.inr (.inr scr)), some (.inr (.inr s)), some (.inr (.inr (s + 126))), some (.inr (.inr (s + 142))), some (.inl i), l5, l6] [] h Q := by
  obtain ⟨R, M0, O⟩ := I.1
  have n0 := O.2.2.2.2.2
  have n63 : n ≤ 63 := by omega
  have ts := R.2.1.2.1
  have tc := I.2.2.1.2.2.1
  by_cases c : xar h scr (i + 2) = 0
  · skip
    refine Wp.vc 400 [] rfl ?_
    refine ⟨⟨by omega, by omega⟩, isA tc (by omega) (by omega), ⟨by omega, by omega⟩, isA tc (by omega) (by omega), fun _ => ?_, fun w => absurd c w⟩
    refine Wp.callR (j := 0) rfl (Nat.le_of_ble_eq_true rfl) ⟨true, ts⟩ (xend (x_opShut R O)) (fun v1 g q => ?_)
    obtain ⟨M, C, tm, tc2, ar⟩ := I.mid q
    have e1 := q.1
    subst e1
    refine Wp.vc 400 [] rfl ?_
    rw [ar (i + 1) (by omega) (by omega), ar (i + 2) (by omega) (by omega)]
    refine ⟨⟨by omega, by omega⟩, isA tc2 (by omega) (by omega), ⟨by omega, by omega⟩, isA tc2 (by omega) (by omega), fun _ => ?_, fun w => absurd c w⟩
    refine Wp.callR (j := 0) rfl (Nat.le_of_ble_eq_true rfl) ⟨true, tm⟩ (mend (m_opShut M O)) (fun v2 g2 q2 => ?_)
    have e2 := q2.1
    subst e2
    have I2 := I.next q q2 ((sk_shut O).mono (by omega) (by omega))
    have nn := nx _ _ l5 l6 I2
    refine Wp.vc 400 [23] rfl ?_
    exact ⟨fun _ => ⟨⟨by omega, by omega⟩, nn⟩, fun w => absurd rfl w⟩
  · skip
    refine Wp.vc 400 [] rfl ?_
    refine ⟨⟨by omega, by omega⟩, isA tc (by omega) (by omega), ⟨by omega, by omega⟩, isA tc (by omega) (by omega), fun w => absurd w c, fun _ => ?_⟩
    refine Wp.callR (j := 0) rfl (Nat.le_of_ble_eq_true rfl) ⟨true, ts⟩ (xend (x_opShut R O)) (fun v1 g q => ?_)
    obtain ⟨M, C, tm, tc2, ar⟩ := I.mid q
    have e1 := q.1
    subst e1
    refine Wp.vc 400 [] rfl ?_
    rw [ar (i + 1) (by omega) (by omega), ar (i + 2) (by omega) (by omega)]
    refine ⟨⟨by omega, by omega⟩, isA tc2 (by omega) (by omega), ⟨by omega, by omega⟩, isA tc2 (by omega) (by omega), fun w => absurd w c, fun _ => ?_⟩
    refine Wp.callR (j := 0) rfl (Nat.le_of_ble_eq_true rfl) ⟨true, tm⟩ (mend (m_opShut M O)) (fun v2 g2 q2 => ?_)
    have e2 := q2.1
    subst e2
    have I2 := I.next q q2 ((sk_shut O).mono (by omega) (by omega))
    have nn := nx _ _ l5 l6 I2
    refine Wp.vc 400 [23] rfl ?_
    exact ⟨fun _ => ⟨⟨by omega, by omega⟩, nn⟩, fun w => absurd rfl w⟩
theorem law_c37 {d : Nat} {h0 h : XH} {s scr L n i : Int} {xs : Nat → Int} {S : XSt} {l5 l6 : Option XV} {Q : XO → XH → Prop} (I : LawI h0 s scr L n xs S h) (hi : i = 6 * n ∧ i + 6 ≤ L ∧ L ≤ 384) (nx : LawN d h0 s scr L n i xs Q) : Wp (d + 113) 297 1467 [some (.inr (.inr scr)), some (.inr (.inr s)), some (.inr (.inr (s + 126))), some (.inr (.inr (s + 142))), some (.inl i), l5, l6] [] h Q := by
  obtain ⟨R, M0, O⟩ := I.1
  have n0 := O.2.2.2.2.2
  have n63 : n ≤ 63 := by omega
  have ts := R.2.1.2.1
  have tc := I.2.2.1.2.2.1
  refine Wp.vc 400 [] rfl ?_
  refine ⟨⟨by omega, by omega⟩, isA tc (by omega) (by omega), ⟨by omega, by omega⟩, isA tc (by omega) (by omega), ?_⟩
  refine Wp.callR (j := 0) rfl (Nat.le_of_ble_eq_true rfl) ⟨true, ts⟩ (xend (x_opGo R O n63)) (fun v1 g q => ?_)
  obtain ⟨M, C, tm, tc2, ar⟩ := I.mid q
  have e1 := q.1
  subst e1
  refine Wp.vc 400 [] rfl ?_
  rw [ar (i + 1) (by omega) (by omega), ar (i + 2) (by omega) (by omega)]
  refine ⟨⟨by omega, by omega⟩, isA tc2 (by omega) (by omega), ⟨by omega, by omega⟩, isA tc2 (by omega) (by omega), ?_⟩
  refine Wp.callR (j := 0) rfl (Nat.le_of_ble_eq_true rfl) ⟨true, tm⟩ (mend (m_opGo M O n63)) (fun v2 g2 q2 => ?_)
  have e2 := q2.1
  subst e2
  have I2 := I.next q q2 (sk_go O n63)
  have nn := nx _ _ l5 l6 I2
  refine Wp.vc 400 [23] rfl ?_
  exact ⟨fun _ => ⟨⟨by omega, by omega⟩, nn⟩, fun w => absurd rfl w⟩
theorem law_c38 {d : Nat} {h0 h : XH} {s scr L n i : Int} {xs : Nat → Int} {S : XSt} {l5 l6 : Option XV} {Q : XO → XH → Prop} (I : LawI h0 s scr L n xs S h) (hi : i = 6 * n ∧ i + 6 ≤ L ∧ L ≤ 384) (nx : LawN d h0 s scr L n i xs Q) : Wp (d + 113) 297 1504 [some (.inr (.inr scr)), some (.inr (.inr s)), some (.inr (.inr (s + 126))), some (.inr (.inr (s + 142))), some (.inl i), l5, l6] [] h Q := by
  obtain ⟨R, M0, O⟩ := I.1
  have n0 := O.2.2.2.2.2
  have n63 : n ≤ 63 := by omega
  have ts := R.2.1.2.1
  have tc := I.2.2.1.2.2.1
  refine Wp.vc 400 [] rfl ?_
  refine ⟨⟨by omega, by omega⟩, isA tc (by omega) (by omega), ⟨by omega, by omega⟩, isA tc (by omega) (by omega), ?_⟩
  refine Wp.callR (j := 0) rfl (Nat.le_of_ble_eq_true rfl) ⟨true, ts⟩ (xend (x_opWaits R O n63)) (fun v1 g q => ?_)
  obtain ⟨M, C, tm, tc2, ar⟩ := I.mid q
  have e1 := q.1
  subst e1
  refine Wp.vc 400 [] rfl ?_
  rw [ar (i + 1) (by omega) (by omega), ar (i + 2) (by omega) (by omega)]
  refine ⟨⟨by omega, by omega⟩, isA tc2 (by omega) (by omega), ⟨by omega, by omega⟩, isA tc2 (by omega) (by omega), ?_⟩
  refine Wp.callR (j := 0) rfl (Nat.le_of_ble_eq_true rfl) ⟨true, tm⟩ (mend (m_opWaits M O n63)) (fun v2 g2 q2 => ?_)
  have e2 := q2.1
  subst e2
  have I2 := I.next q q2 (sk_waits O n63)
  have nn := nx _ _ l5 l6 I2
  refine Wp.vc 400 [23] rfl ?_
  exact ⟨fun _ => ⟨⟨by omega, by omega⟩, nn⟩, fun w => absurd rfl w⟩
theorem law_c39 {d : Nat} {h0 h : XH} {s scr L n i : Int} {xs : Nat → Int} {S : XSt} {l5 l6 : Option XV} {Q : XO → XH → Prop} (I : LawI h0 s scr L n xs S h) (hi : i = 6 * n ∧ i + 6 ≤ L ∧ L ≤ 384) (nx : LawN d h0 s scr L n i xs Q) : Wp (d + 113) 297 1541 [some (.inr (.inr scr)), some (.inr (.inr s)), some (.inr (.inr (s + 126))), some (.inr (.inr (s + 142))), some (.inl i), l5, l6] [] h Q := by
  obtain ⟨R, M0, O⟩ := I.1
  have n0 := O.2.2.2.2.2
  have n63 : n ≤ 63 := by omega
  have ts := R.2.1.2.1
  have tc := I.2.2.1.2.2.1
  refine Wp.vc 400 [] rfl ?_
  refine Wp.callR (j := 0) rfl (Nat.le_of_ble_eq_true rfl) ⟨true, ts⟩ (xend (x_opUndo R O)) (fun v1 g q => ?_)
  obtain ⟨M, C, tm, tc2, ar⟩ := I.mid q
  have e1 := q.1
  subst e1
  refine Wp.vc 400 [] rfl ?_
  refine Wp.callR (j := 0) rfl (Nat.le_of_ble_eq_true rfl) ⟨true, tm⟩ (mend (m_opUndo M O)) (fun v2 g2 q2 => ?_)
  have e2 := q2.1
  subst e2
  have I2 := I.next q q2 ((sk_undo O).mono (by omega) (by omega))
  have nn := nx _ _ l5 l6 I2
  refine Wp.vc 400 [23] rfl ?_
  exact ⟨fun _ => ⟨⟨by omega, by omega⟩, nn⟩, fun w => absurd rfl w⟩
theorem law_c40 {d : Nat} {h0 h : XH} {s scr L n i : Int} {xs : Nat → Int} {S : XSt} {l5 l6 : Option XV} {Q : XO → XH → Prop} (I : LawI h0 s scr L n xs S h) (hi : i = 6 * n ∧ i + 6 ≤ L ∧ L ≤ 384) (nx : LawN d h0 s scr L n i xs Q) : Wp (d + 113) 297 1554 [some (.inr (.inr scr)), some (.inr (.inr s)), some (.inr (.inr (s + 126))), some (.inr (.inr (s + 142))), some (.inl i), l5, l6] [] h Q := by
  obtain ⟨R, M0, O⟩ := I.1
  have n0 := O.2.2.2.2.2
  have n63 : n ≤ 63 := by omega
  have ts := R.2.1.2.1
  have tc := I.2.2.1.2.2.1
  refine Wp.vc 400 [] rfl ?_
  refine Wp.callR (j := 0) rfl (Nat.le_of_ble_eq_true rfl) ⟨true, ts⟩ (xend (x_opMark R O)) (fun v1 g q => ?_)
  obtain ⟨M, C, tm, tc2, ar⟩ := I.mid q
  have e1 := q.1
  subst e1
  refine Wp.vc 400 [] rfl ?_
  refine Wp.callR (j := 0) rfl (Nat.le_of_ble_eq_true rfl) ⟨true, tm⟩ (mend (m_opMark M O)) (fun v2 g2 q2 => ?_)
  have e2 := q2.1
  subst e2
  have I2 := I.next q q2 ((sk_mark O).mono (by omega) (by omega))
  have nn := nx _ _ l5 l6 I2
  refine Wp.vc 400 [23] rfl ?_
  exact ⟨fun _ => ⟨⟨by omega, by omega⟩, nn⟩, fun w => absurd rfl w⟩
theorem law_c41 {d : Nat} {h0 h : XH} {s scr L n i : Int} {xs : Nat → Int} {S : XSt} {l5 l6 : Option XV} {Q : XO → XH → Prop} (I : LawI h0 s scr L n xs S h) (hi : i = 6 * n ∧ i + 6 ≤ L ∧ L ≤ 384) (nx : LawN d h0 s scr L n i xs Q) : Wp (d + 113) 297 1567 [some (.inr (.inr scr)), some (.inr (.inr s)), some (.inr (.inr (s + 126))), some (.inr (.inr (s + 142))), some (.inl i), l5, l6] [] h Q := by
  obtain ⟨R, M0, O⟩ := I.1
  have n0 := O.2.2.2.2.2
  have n63 : n ≤ 63 := by omega
  have ts := R.2.1.2.1
  have tc := I.2.2.1.2.2.1
  refine Wp.vc 400 [] rfl ?_
  refine ⟨⟨by omega, by omega⟩, isA tc (by omega) (by omega), ?_⟩
  refine Wp.callR (j := 0) rfl (Nat.le_of_ble_eq_true rfl) ⟨true, ts⟩ (xend (x_opBack R O)) (fun v1 g q => ?_)
  obtain ⟨M, C, tm, tc2, ar⟩ := I.mid q
  have e1 := q.1
  subst e1
  refine Wp.vc 400 [] rfl ?_
  rw [ar (i + 1) (by omega) (by omega)]
  refine ⟨⟨by omega, by omega⟩, isA tc2 (by omega) (by omega), ?_⟩
  refine Wp.callR (j := 0) rfl (Nat.le_of_ble_eq_true rfl) ⟨true, tm⟩ (mend (m_opBack M O)) (fun v2 g2 q2 => ?_)
  have e2 := q2.1
  subst e2
  have I2 := I.next q q2 ((sk_back O).mono (by omega) (by omega))
  have nn := nx _ _ l5 l6 I2
  refine Wp.vc 400 [23] rfl ?_
  exact ⟨fun _ => ⟨⟨by omega, by omega⟩, nn⟩, fun w => absurd rfl w⟩
theorem law_c43 {d : Nat} {h0 h : XH} {s scr L n i : Int} {xs : Nat → Int} {S : XSt} {l5 l6 : Option XV} {Q : XO → XH → Prop} (I : LawI h0 s scr L n xs S h) (hi : i = 6 * n ∧ i + 6 ≤ L ∧ L ≤ 384) (nx : LawN d h0 s scr L n i xs Q) : Wp (d + 113) 297 1648 [some (.inr (.inr scr)), some (.inr (.inr s)), some (.inr (.inr (s + 126))), some (.inr (.inr (s + 142))), some (.inl i), l5, l6] [] h Q := by
  obtain ⟨R, M0, O⟩ := I.1
  have n0 := O.2.2.2.2.2
  have n63 : n ≤ 63 := by omega
  have ts := R.2.1.2.1
  have tc := I.2.2.1.2.2.1
  refine Wp.vc 400 [] rfl ?_
  refine ⟨⟨by omega, by omega⟩, isA tc (by omega) (by omega), ?_⟩
  refine Wp.callR (j := 0) rfl (Nat.le_of_ble_eq_true rfl) ⟨true, ts⟩ (xend (x_opSize R O)) (fun v1 g q => ?_)
  obtain ⟨M, C, tm, tc2, ar⟩ := I.mid q
  have e1 := q.1
  subst e1
  refine Wp.vc 400 [] rfl ?_
  rw [ar (i + 1) (by omega) (by omega)]
  refine ⟨⟨by omega, by omega⟩, isA tc2 (by omega) (by omega), ?_⟩
  refine Wp.callR (j := 0) rfl (Nat.le_of_ble_eq_true rfl) ⟨true, tm⟩ (mend (m_opSize M O)) (fun v2 g2 q2 => ?_)
  have e2 := q2.1
  subst e2
  have I2 := I.next q q2 ((sk_size O).mono (by omega) (by omega))
  have nn := nx _ _ l5 l6 I2
  refine Wp.vc 400 [23] rfl ?_
  exact ⟨fun _ => ⟨⟨by omega, by omega⟩, nn⟩, fun w => absurd rfl w⟩
theorem law_c44 {d : Nat} {h0 h : XH} {s scr L n i : Int} {xs : Nat → Int} {S : XSt} {l5 l6 : Option XV} {Q : XO → XH → Prop} (I : LawI h0 s scr L n xs S h) (hi : i = 6 * n ∧ i + 6 ≤ L ∧ L ≤ 384) (nx : LawN d h0 s scr L n i xs Q) : Wp (d + 113) 297 1673 [some (.inr (.inr scr)), some (.inr (.inr s)), some (.inr (.inr (s + 126))), some (.inr (.inr (s + 142))), some (.inl i), l5, l6] [] h Q := by
  obtain ⟨R, M0, O⟩ := I.1
  have n0 := O.2.2.2.2.2
  have n63 : n ≤ 63 := by omega
  have ts := R.2.1.2.1
  have tc := I.2.2.1.2.2.1
  refine Wp.vc 400 [] rfl ?_
  refine Wp.callR (j := 0) rfl (Nat.le_of_ble_eq_true rfl) ⟨true, ts⟩ (xend (x_opTrouble R)) (fun v1 g q => ?_)
  obtain ⟨M, C, tm, tc2, ar⟩ := I.mid q
  have e1 := q.1
  subst e1
  refine Wp.vc 400 [] rfl ?_
  refine Wp.callR (j := 0) rfl (Nat.le_of_ble_eq_true rfl) ⟨true, tm⟩ (mend (m_opTrouble M)) (fun v2 g2 q2 => ?_)
  have e2 := q2.1
  subst e2
  have I2 := I.next q q2 ((sk_trouble O).mono (by omega) (by omega))
  have nn := nx _ _ l5 l6 I2
  refine Wp.vc 400 [23] rfl ?_
  exact ⟨fun _ => ⟨⟨by omega, by omega⟩, nn⟩, fun w => absurd rfl w⟩
