/-! WALKS, 99b: the law's loop -/
set_option maxRecDepth 100000
set_option maxHeartbeats 4000000
def LawE (h0 : XH) (s : Int) : XO → XH → Prop := XRet fun v h' => v = some (.inl 1) ∧ xsz h' ≤ s + 212879 ∧ xsl h' ≤ xsl h0 + 1717744
theorem law_case {d : Nat} {h0 h : XH} {s scr L n i v : Int} {xs : Nat → Int} {S : XSt} {l5 l6 : Option XV} {Q : XO → XH → Prop} (I : LawI h0 s scr L n xs S h) (hi : i = 6 * n ∧ i + 6 ≤ L ∧ L ≤ 384) (nx : LawN d h0 s scr L n i xs Q) : Wp (d + 113) 297 40 [some (.inr (.inr scr)), some (.inr (.inr s)), some (.inr (.inr (s + 126))), some (.inr (.inr (s + 142))), some (.inl i), l5, l6] [.inl v] h Q := by
  by_cases e0 : v = 0
  · exact Wp.sw rfl (t := 236) (by rw [e0]; rfl) (law_c0 I hi nx)
  by_cases e1 : v = 1
  · exact Wp.sw rfl (t := 309) (by rw [e1]; rfl) (law_c1 I hi nx)
  by_cases e2 : v = 2
  · exact Wp.sw rfl (t := 334) (by rw [e2]; rfl) (law_c2 I hi nx)
  by_cases e3 : v = 3
  · exact Wp.sw rfl (t := 347) (by rw [e3]; rfl) (law_c3 I hi nx)
  by_cases e4 : v = 4
  · exact Wp.sw rfl (t := 360) (by rw [e4]; rfl) (law_c4 I hi nx)
  by_cases e5 : v = 5
  · exact Wp.sw rfl (t := 397) (by rw [e5]; rfl) (law_c5 I hi nx)
  by_cases e6 : v = 6
  · exact Wp.sw rfl (t := 434) (by rw [e6]; rfl) (law_c6 I hi nx)
  by_cases e7 : v = 7
  · exact Wp.sw rfl (t := 471) (by rw [e7]; rfl) (law_c7 I hi nx)
  by_cases e8 : v = 8
  · exact Wp.sw rfl (t := 508) (by rw [e8]; rfl) (law_c8 I hi nx)
  by_cases e9 : v = 9
  · exact Wp.sw rfl (t := 533) (by rw [e9]; rfl) (law_c9 I hi nx)
  by_cases e10 : v = 10
  · exact Wp.sw rfl (t := 570) (by rw [e10]; rfl) (law_c10 I hi nx)
  by_cases e11 : v = 11
  · exact Wp.sw rfl (t := 583) (by rw [e11]; rfl) (law_c11 I hi nx)
  by_cases e12 : v = 12
  · exact Wp.sw rfl (t := 596) (by rw [e12]; rfl) (law_c12 I hi nx)
  by_cases e13 : v = 13
  · exact Wp.sw rfl (t := 645) (by rw [e13]; rfl) (law_c13 I hi nx)
  by_cases e14 : v = 14
  · exact Wp.sw rfl (t := 706) (by rw [e14]; rfl) (law_c14 I hi nx)
  by_cases e15 : v = 15
  · exact Wp.sw rfl (t := 755) (by rw [e15]; rfl) (law_c15 I hi nx)
  by_cases e16 : v = 16
  · exact Wp.sw rfl (t := 792) (by rw [e16]; rfl) (law_c16 I hi nx)
  by_cases e17 : v = 17
  · exact Wp.sw rfl (t := 817) (by rw [e17]; rfl) (law_c17 I hi nx)
  by_cases e18 : v = 18
  · exact Wp.sw rfl (t := 830) (by rw [e18]; rfl) (law_c18 I hi nx)
  by_cases e19 : v = 19
  · exact Wp.sw rfl (t := 855) (by rw [e19]; rfl) (law_c19 I hi nx)
  by_cases e20 : v = 20
  · exact Wp.sw rfl (t := 880) (by rw [e20]; rfl) (law_c20 I hi nx)
  by_cases e21 : v = 21
  · exact Wp.sw rfl (t := 905) (by rw [e21]; rfl) (law_c21 I hi nx)
  by_cases e22 : v = 22
  · exact Wp.sw rfl (t := 918) (by rw [e22]; rfl) (law_c22 I hi nx)
  by_cases e23 : v = 23
  · exact Wp.sw rfl (t := 931) (by rw [e23]; rfl) (law_c23 I hi nx)
  by_cases e24 : v = 24
  · exact Wp.sw rfl (t := 985) (by rw [e24]; rfl) (law_c24 I hi nx)
  by_cases e25 : v = 25
  · exact Wp.sw rfl (t := 1039) (by rw [e25]; rfl) (law_c25 I hi nx)
  by_cases e26 : v = 26
  · exact Wp.sw rfl (t := 1052) (by rw [e26]; rfl) (law_c26 I hi nx)
  by_cases e27 : v = 27
  · exact Wp.sw rfl (t := 1065) (by rw [e27]; rfl) (law_c27 I hi nx)
  by_cases e28 : v = 28
  · exact Wp.sw rfl (t := 1078) (by rw [e28]; rfl) (law_c28 I hi nx)
  by_cases e29 : v = 29
  · exact Wp.sw rfl (t := 1103) (by rw [e29]; rfl) (law_c29 I hi nx)
  by_cases e30 : v = 30
  · exact Wp.sw rfl (t := 1128) (by rw [e30]; rfl) (law_c30 I hi nx)
  by_cases e31 : v = 31
  · exact Wp.sw rfl (t := 1217) (by rw [e31]; rfl) (law_c31 I hi nx)
  by_cases e32 : v = 32
  · exact Wp.sw rfl (t := 1254) (by rw [e32]; rfl) (law_c32 I hi nx)
  by_cases e33 : v = 33
  · exact Wp.sw rfl (t := 1291) (by rw [e33]; rfl) (law_c33 I hi nx)
  by_cases e34 : v = 34
  · exact Wp.sw rfl (t := 1328) (by rw [e34]; rfl) (law_c34 I hi nx)
  by_cases e35 : v = 35
  · exact Wp.sw rfl (t := 1377) (by rw [e35]; rfl) (law_c35 I hi nx)
  by_cases e36 : v = 36
  · exact Wp.sw rfl (t := 1414) (by rw [e36]; rfl) (law_c36 I hi nx)
  by_cases e37 : v = 37
  · exact Wp.sw rfl (t := 1467) (by rw [e37]; rfl) (law_c37 I hi nx)
  by_cases e38 : v = 38
  · exact Wp.sw rfl (t := 1504) (by rw [e38]; rfl) (law_c38 I hi nx)
  by_cases e39 : v = 39
  · exact Wp.sw rfl (t := 1541) (by rw [e39]; rfl) (law_c39 I hi nx)
  by_cases e40 : v = 40
  · exact Wp.sw rfl (t := 1554) (by rw [e40]; rfl) (law_c40 I hi nx)
  by_cases e41 : v = 41
  · exact Wp.sw rfl (t := 1567) (by rw [e41]; rfl) (law_c41 I hi nx)
  by_cases e42 : v = 42
  · exact Wp.sw rfl (t := 1592) (by rw [e42]; rfl) (law_c42 I hi nx)
  by_cases e43 : v = 43
  · exact Wp.sw rfl (t := 1648) (by rw [e43]; rfl) (law_c43 I hi nx)
  by_cases e44 : v = 44
  · exact Wp.sw rfl (t := 1673) (by rw [e44]; rfl) (law_c44 I hi nx)
  refine Wp.sw rfl (t := 1686) ?_ ?_
  · simp only [xsw]
    rw [if_neg e0, if_neg e1, if_neg e2, if_neg e3, if_neg e4, if_neg e5, if_neg e6, if_neg e7, if_neg e8, if_neg e9, if_neg e10, if_neg e11, if_neg e12, if_neg e13, if_neg e14, if_neg e15, if_neg e16, if_neg e17, if_neg e18, if_neg e19, if_neg e20, if_neg e21, if_neg e22, if_neg e23, if_neg e24, if_neg e25, if_neg e26, if_neg e27, if_neg e28, if_neg e29, if_neg e30, if_neg e31, if_neg e32, if_neg e33, if_neg e34, if_neg e35, if_neg e36, if_neg e37, if_neg e38, if_neg e39, if_neg e40, if_neg e41, if_neg e42, if_neg e43, if_neg e44]
  · have O := I.1.2.2
    have I2 : LawI h0 s scr L (n + 1) xs S h := ⟨⟨I.1.1, I.1.2.1, O.mono (by omega) (by omega)⟩, I.2.1, I.2.2.1, by have := I.2.2.2; omega, by have := I.2.2.2; omega⟩
    have nn := nx _ _ l5 l6 I2
    have n0 := O.2.2.2.2.2
    refine Wp.vc 400 [23] rfl ?_
    exact ⟨⟨by omega, by omega⟩, nn⟩
theorem law_loop {d : Nat} {h0 : XH} {s scr L : Int} {xs : Nat → Int} (hL : 0 ≤ L ∧ L ≤ 384) : ∀ (k : Nat) (n i : Int) (S : XSt) (h : XH) (l5 l6 : Option XV), LawI h0 s scr L n xs S h → i = 6 * n → L - i < 6 * (k : Int) → Wp (d + 113) 297 23 [some (.inr (.inr scr)), some (.inr (.inr s)), some (.inr (.inr (s + 126))), some (.inr (.inr (s + 142))), some (.inl i), l5, l6] [] h (LawE h0 s) := by
  have ex : ∀ (n i : Int) (S : XSt) (h : XH) (l5 l6 : Option XV), LawI h0 s scr L n xs S h → Wp (d + 113) 297 1692 [some (.inr (.inr scr)), some (.inr (.inr s)), some (.inr (.inr (s + 126))), some (.inr (.inr (s + 142))), some (.inl i), l5, l6] [] h (LawE h0 s) := by
    intro n i S h l5 l6 I
    have bz := I.2.2.2
    have n0 := I.1.2.2.2.2.2.2.2
    refine Wp.vc 400 [] rfl ?_
    exact ⟨⟨by decide, by decide⟩, _, rfl, rfl, by omega, by omega⟩
  intro k
  induction k with
  | zero =>
    intro n i S h l5 l6 I hi hk
    have tc := I.2.2.1.2.2.1
    have n0 := I.1.2.2.2.2.2.2.2
    have lt : xlenT (xty h scr) = L := by rw [tc]; rfl
    have hk : L - i < 0 := hk
    have e := ex n i S h l5 l6 I
    refine Wp.vc 400 [1692, 40] rfl ?_
    rw [lt]
    exact ⟨⟨_, _, _, tc⟩, ⟨by omega, by omega⟩, fun _ => e, fun w => absurd (by omega) w⟩
  | succ k ih =>
    intro n i S h l5 l6 I hi hk
    have tc := I.2.2.1.2.2.1
    have n0 := I.1.2.2.2.2.2.2.2
    have lt : xlenT (xty h scr) = L := by rw [tc]; rfl
    by_cases c : i + 6 ≤ L
    · have nx : LawN d h0 s scr L n i xs (LawE h0 s) := fun S' h' l5 l6 I' => ih (n + 1) (i + 6) S' h' l5 l6 I' (by omega) (by omega)
      have cs := fun v => law_case (v := v) (l5 := l5) (l6 := l6) I ⟨hi, c, hL.2⟩ nx
      refine Wp.vc 400 [1692, 40] rfl ?_
      rw [lt]
      exact ⟨⟨_, _, _, tc⟩, ⟨by omega, by omega⟩, fun w => absurd w (by omega), fun _ => ⟨isA tc (by omega) (by omega), cs _⟩⟩
    · have e := ex n i S h l5 l6 I
      refine Wp.vc 400 [1692, 40] rfl ?_
      rw [lt]
      exact ⟨⟨_, _, _, tc⟩, ⟨by omega, by omega⟩, fun _ => e, fun w => absurd (by omega) w⟩
