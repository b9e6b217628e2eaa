/-! WALKS, 99: the law's led -/
set_option maxRecDepth 100000
set_option maxHeartbeats 4000000
theorem x_led1 {d : Nat} {h : XH} {B s n i a : Int} {S : XSt} (R : Rx h B s S) (O : SOK n S) (ta : xty h a = some (true, 3, some 1)) : WpM (d + 1) 0 [.inr (.inr s), .inl i, .inr (.inr a)] h (XRet fun v g => XFr (fun _ _ => False) (fun z => z = a) h g ∧ xsz g ≤ xsz h + 1 ∧ xsl g ≤ xsl h + 6 ∧ ((∃ p, ledv S i = some p ∧ v = some (.inl 0) ∧ xar g a 0 = p) ∨ (ledv S i = none ∧ v = some (.inl 1)))) := by
  obtain ⟨le, e, o, g, r, q⟩ := x_led0 (d := d) (i := i) R O ta
  refine ⟨le, e, o, g, r, ?_⟩
  unfold LedW at q
  cases el : ledv S i with
  | none =>
    rw [el] at q
    obtain ⟨q1, q2⟩ := q
    refine ⟨_, q1, ?_⟩
    rw [q2]
    exact ⟨(XFr.refl h).newo, Int.le_refl _, Int.le_refl _, Or.inr ⟨rfl, rfl⟩⟩
  | some p =>
    rw [el] at q
    obtain ⟨q1, q2⟩ := q
    refine ⟨_, q1, ?_⟩
    rw [q2]
    refine ⟨(XFr.refl h).puta (Or.inr rfl), ?_, ?_, Or.inl ⟨p, rfl, rfl, by rw [pa_eq, if_pos rfl]⟩⟩
    · show xsz h ≤ _
      omega
    · show xsl h ≤ _
      omega
theorem m_thrown {d : Nat} {h : XH} {m : Int} (tm : xty h m = some (true, 9, none)) : WpM d 139 [.inr (.inr m)] h (XE (some (.inl (xfl h m 66))) h) := by
  refine WpM.of rfl (Wp.vc 400 [] rfl ?_)
  exact ⟨isF tm rfl, trivial, rfl, rfl⟩
theorem law_c42 {d : Nat} {h0 h : XH} {s scr L n i : Int} {xs : Nat → Int} {S : XSt} {l5 l6 : Option XV} {Q : XO → XH → Prop} (I : LawI h0 s scr L n xs S h) (hi : i = 6 * n ∧ i + 6 ≤ L ∧ L ≤ 384) (nx : LawN d h0 s scr L n i xs Q) : Wp (d + 113) 297 1592 [some (.inr (.inr scr)), some (.inr (.inr s)), some (.inr (.inr (s + 126))), some (.inr (.inr (s + 142))), some (.inl i), l5, l6] [] h Q := by
  obtain ⟨R, M0, O⟩ := I.1
  have n0 := O.2.2.2.2.2
  have n63 : n ≤ 63 := by omega
  have ts := R.2.1.2.1
  have tc := I.2.2.1.2.2.1
  have c4 := I.2.2.1.2.2.2
  have c12 : 1 ≤ scr ∧ scr < s := ⟨I.2.2.1.1, I.2.2.1.2.1⟩
  have b := R.1
  have ta := I.2.1.2.2
  have C0 := I.2.1.1
  have nz := I.2.1.2.1
  have bz := I.2.2.2
  refine Wp.vc 400 [] rfl ?_
  refine ⟨⟨by omega, by omega⟩, isA tc (by omega) (by omega), ?_⟩
  refine Wp.callR (j := 0) rfl (Nat.le_of_ble_eq_true rfl) trivial (x_led1 R O ta) (fun v1 g q => ?_)
  obtain ⟨p, z1, l1, q⟩ := q
  have zg := p.2.1
  have M : Rm g (s + 143) (s + 126) S := M0.far p (fun z f hz w => w) (fun z hz w => by omega)
  have R1 : Rx g (s + 143) s S := R.far O p (fun z f hz w => w) (fun z hz w => by omega)
  have C : CstOK g s := C0.keep p (by omega) (fun z f hz w => w) (fun z hz w => by omega)
  have tm := M.2.1.1
  have tc2 := (p.2.2.1 scr (by omega)).trans tc
  have ta2 := (p.2.2.1 (s + 142) (by omega)).trans ta
  have ar : ∀ j : Int, 0 ≤ j → j < L → xar g scr j = xar h scr j := fun j _ _ => p.2.2.2.2 _ _ (by omega) (fun w => by omega)
  obtain ⟨e, rfl, he, hp⟩ : ∃ e : Int, v1 = some (.inl e) ∧ e = (if (ledv S (xar h scr (i + 1))).isSome = true then 0 else 1) ∧ (e = 0 → xar g (s + 142) 0 = (ledv S (xar h scr (i + 1))).getD 0) := by
    rcases q with ⟨p, e1, e2, e3⟩ | ⟨e1, e2⟩
    · exact ⟨0, e2, by rw [e1]; rfl, fun _ => by rw [e1]; exact e3⟩
    · exact ⟨1, e2, by rw [e1]; rfl, fun w => by omega⟩
  refine Wp.vc 400 [] rfl ?_
  rw [ar (i + 1) (by omega) (by omega)]
  refine ⟨⟨by omega, by omega⟩, isA tc2 (by omega) (by omega), ?_⟩
  refine Wp.callR (j := 0) rfl (Nat.le_of_ble_eq_true rfl) ⟨true, tm⟩ (m_led M O) (fun v2 g2 q2 => ?_)
  obtain ⟨rfl, M2, p2, z2, l2, f66⟩ := q2
  have R2 : Rx g2 (s + 143) s S := R1.far O p2 (fun z f hz w => by have := w.1; omega) (fun z hz w => by have := w.1; have := w.2; omega)
  have C2 := C.keep p2 (by omega) (fun z f hz w => by have := w.1; omega) (fun z hz w => by have := w.1; omega)
  have tm2 := M2.2.1.1
  have ta3 := (p2.2.2.1 (s + 142) (by omega)).trans ta2
  have o3 : xar g2 (s + 142) 0 = xar g (s + 142) 0 := p2.2.2.2.2 _ _ (by omega) (fun w => by have := w.2; omega)
  have I2 : LawI h0 s scr L (n + 1) xs S g2 := ⟨⟨R2, M2, O.mono (by omega) (by omega)⟩, ⟨C2, (p2.2.2.1 _ (by omega)).trans ((p.2.2.1 _ (by omega)).trans nz), ta3⟩, ⟨c12.1, c12.2, (p2.2.2.1 _ (by omega)).trans tc2, fun j hj => ⟨((p2.2.2.2.2 _ _ (by omega) (fun w => by have := w.1; omega)).trans (p.2.2.2.2 _ _ (by omega) (fun w => by omega))).trans (c4 j hj).1, (c4 j hj).2⟩⟩, by omega, by omega⟩
  have nn := nx _ _ (some (.inl e)) (some (.inl ((ledv S (xar h scr (i + 1))).getD 0))) I2
  refine Wp.vc 400 [] rfl ?_
  refine Wp.callE (j := 0) rfl (Nat.le_of_ble_eq_true rfl) ⟨true, tm2⟩ (m_thrown tm2) ?_
  rw [f66, ← he]
  refine Wp.vc 400 [23] rfl ?_
  rw [o3]
  exact ⟨fun _ => ⟨fun _ => ⟨⟨by omega, by omega⟩, nn⟩, fun w => ⟨isA ta3 (by decide) (by decide), fun _ => ⟨⟨by omega, by omega⟩, nn⟩, fun w2 => absurd (by rw [hp (Decidable.of_not_not w)]; exact xcmp_self _) w2⟩⟩, fun w => absurd rfl w⟩
