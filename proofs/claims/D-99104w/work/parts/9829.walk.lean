/-! WALKS, 68: WrongRoom's reader: the switch over a word -/
set_option maxRecDepth 100000
set_option maxHeartbeats 4000000
theorem hsh_0 : hsh (cw 1) = 3566226 := by decide +kernel
theorem hsh_1 : hsh (cw 2) = 99469088 := by decide +kernel
theorem hsh_2 : hsh (cw 3) = 113405357 := by decide +kernel
theorem hsh_3 : hsh (cw 4) = 3417674 := by decide +kernel
theorem hsh_4 : hsh (cw 5) = -891990013 := by decide +kernel
theorem hsh_5 : hsh (cw 6) = -991716523 := by decide +kernel
theorem hsh_6 : hsh (cw 7) = 3530173 := by decide +kernel
theorem hsh_7 : hsh (cw 8) = 104998682 := by decide +kernel
theorem kwi_no {w : List Int} (h0 : w ≠ cw 1) (h1 : w ≠ cw 2) (h2 : w ≠ cw 3) (h3 : w ≠ cw 4) (h4 : w ≠ cw 5) (h5 : w ≠ cw 6) (h6 : w ≠ cw 7) (h7 : w ≠ cw 8) : kwi w = -1 := by
  unfold kwi
  rw [if_neg h0, if_neg h1, if_neg h2, if_neg h3, if_neg h4, if_neg h5, if_neg h6, if_neg h7]
theorem kwi_0 : kwi (cw 1) = 0 := by decide +kernel
theorem kwi_1 : kwi (cw 2) = 1 := by decide +kernel
theorem kwi_2 : kwi (cw 3) = 2 := by decide +kernel
theorem kwi_3 : kwi (cw 4) = 3 := by decide +kernel
theorem kwi_4 : kwi (cw 5) = 4 := by decide +kernel
theorem kwi_5 : kwi (cw 6) = 5 := by decide +kernel
theorem kwi_6 : kwi (cw 7) = 6 := by decide +kernel
theorem kwi_7 : kwi (cw 8) = 7 := by decide +kernel
theorem x_kw_79 {d : Nat} {K : XX} {c : Int} {h : XH} {l : LTk} {Q : XO → XH → Prop} {l1 l2 : Option XV} (R : XZ K c h l) (e2 : lk l = 2) (cont : ∀ h1 l1, XZ K c h1 l → FrL (ks K) (kz K) h h1 → Wp (d + 4) 79 211 [some (.inr (.inr (ks K + 2))), l1, some (.inl (kwi (lw l)))] [] h1 Q) (ol1 : l1 = none) (ol2 : l2 = none) : Wp (d + 4) 79 14 [some (.inr (.inr (ks K + 2))), l1, l2] [] h Q := by
  subst ol1
  subst ol2
  have tr := R.tr
  obtain ⟨sv, sx, ho, xw⟩ := R.word e2
  have hs := x_hashCode (d := d) sx xw.2.1 ho xw.2.2
  obtain ⟨ra, ta⟩ := sv.1
  refine Wp.vc 400 [25] rfl ?_
  refine ⟨isF tr rfl, ?_⟩
  refine Wp.callR (j := 0) rfl (Nat.le_of_ble_eq_true rfl) ⟨ra, ta⟩ hs (fun v h1 q => ?_)
  obtain ⟨rfl, p, z1, z2, ho1⟩ := q
  have zz := R.c.1
  have ga := sx.1.1
  have gs := sx.1.2.1
  have pl : FrL (ks K) (kz K) h h1 := p.mono (fun z f _ w => Or.inr (Or.inr ⟨by have := w.1; omega, w.2⟩)) (fun _ _ w => w.elim)
  have fl : ∀ f, xfl h1 (ks K + 2) f = xfl h (ks K + 2) f := fun f => p.2.2.2.1 _ f (by omega) (fun w => by have := w.1; omega)
  have R1 : XZ K c h1 l := by
    refine ⟨⟨⟨R.c.keep pl, (fl 25).trans R.1.1.2.1, ?_, ?_⟩, (fl 25).trans R.1.2.1, (fl 26).trans R.1.2.2.1, (fl 27).trans R.1.2.2.2.1, fun e => (fl 28).trans (R.1.2.2.2.2.1 e), fun e => ?_⟩, R.2.1.trans pl.t, R.2.2⟩
    · rw [z1]
      exact R.1.1.2.2.1
    · rw [z2]
      exact R.1.1.2.2.2
    · rw [fl 29]
      exact ⟨sx.keep (pl.above zz.2.1), ho1⟩
  have e29 := fl 29
  rw [← e29] at sv ⊢
  have sv1 := (R1.word e2).1
  obtain ⟨ra1, ta1⟩ := sv1.1
  have cont := cont h1 (some (.inr (.inr (xfl h1 (ks K + 2) 29)))) R1 pl
  have hc : ∀ k : Nat, k < 41 → StrV h1 (xcs h1 k) (cw k) := fun k hk => R1.cst k hk
  clear hs sv sx ho p pl R z1 z2 ho1 zz ga gs fl R1 e29 ta tr
  generalize lw l = w at *
  generalize xfl h1 (ks K + 2) 29 = a at *
  show Wp _ _ 25 _ (.inl (hsh w) :: []) _ _
  by_cases q5 : hsh w = -991716523
  · refine Wp.sw rfl (t := 170) ?_ ?_
    · simp only [xsw]
      rw [if_pos q5]
    · refine Wp.vc 400 [211] rfl ?_
      refine Wp.callE (j := 0) rfl (Nat.le_of_ble_eq_true rfl) ⟨ra1, ta1⟩ (x_equals sv1 (hc 6 (by decide))) ?_
      by_cases w1 : w = cw 6
      · rw [if_pos w1]
        rw [w1, kwi_5] at cont
        refine Wp.vc 400 [211] rfl ?_
        exact ⟨fun c => absurd c (by decide), fun _ => cont⟩
      · rw [if_neg w1]
        rw [kwi_no (fun e => absurd (q5.symm.trans ((congrArg hsh e).trans hsh_0)) (by decide)) (fun e => absurd (q5.symm.trans ((congrArg hsh e).trans hsh_1)) (by decide)) (fun e => absurd (q5.symm.trans ((congrArg hsh e).trans hsh_2)) (by decide)) (fun e => absurd (q5.symm.trans ((congrArg hsh e).trans hsh_3)) (by decide)) (fun e => absurd (q5.symm.trans ((congrArg hsh e).trans hsh_4)) (by decide)) w1 (fun e => absurd (q5.symm.trans ((congrArg hsh e).trans hsh_6)) (by decide)) (fun e => absurd (q5.symm.trans ((congrArg hsh e).trans hsh_7)) (by decide))] at cont
        refine Wp.vc 400 [211] rfl ?_
        exact ⟨fun _ => cont, fun c => absurd rfl c⟩
  by_cases q4 : hsh w = -891990013
  · refine Wp.sw rfl (t := 156) ?_ ?_
    · simp only [xsw]
      rw [if_neg q5, if_pos q4]
    · refine Wp.vc 400 [211] rfl ?_
      refine Wp.callE (j := 0) rfl (Nat.le_of_ble_eq_true rfl) ⟨ra1, ta1⟩ (x_equals sv1 (hc 5 (by decide))) ?_
      by_cases w1 : w = cw 5
      · rw [if_pos w1]
        rw [w1, kwi_4] at cont
        refine Wp.vc 400 [211] rfl ?_
        exact ⟨fun c => absurd c (by decide), fun _ => cont⟩
      · rw [if_neg w1]
        rw [kwi_no (fun e => absurd (q4.symm.trans ((congrArg hsh e).trans hsh_0)) (by decide)) (fun e => absurd (q4.symm.trans ((congrArg hsh e).trans hsh_1)) (by decide)) (fun e => absurd (q4.symm.trans ((congrArg hsh e).trans hsh_2)) (by decide)) (fun e => absurd (q4.symm.trans ((congrArg hsh e).trans hsh_3)) (by decide)) w1 (fun e => absurd (q4.symm.trans ((congrArg hsh e).trans hsh_5)) (by decide)) (fun e => absurd (q4.symm.trans ((congrArg hsh e).trans hsh_6)) (by decide)) (fun e => absurd (q4.symm.trans ((congrArg hsh e).trans hsh_7)) (by decide))] at cont
        refine Wp.vc 400 [211] rfl ?_
        exact ⟨fun _ => cont, fun c => absurd rfl c⟩
  by_cases q3 : hsh w = 3417674
  · refine Wp.sw rfl (t := 142) ?_ ?_
    · simp only [xsw]
      rw [if_neg q5, if_neg q4, if_pos q3]
    · refine Wp.vc 400 [211] rfl ?_
      refine Wp.callE (j := 0) rfl (Nat.le_of_ble_eq_true rfl) ⟨ra1, ta1⟩ (x_equals sv1 (hc 4 (by decide))) ?_
      by_cases w1 : w = cw 4
      · rw [if_pos w1]
        rw [w1, kwi_3] at cont
        refine Wp.vc 400 [211] rfl ?_
        exact ⟨fun c => absurd c (by decide), fun _ => cont⟩
      · rw [if_neg w1]
        rw [kwi_no (fun e => absurd (q3.symm.trans ((congrArg hsh e).trans hsh_0)) (by decide)) (fun e => absurd (q3.symm.trans ((congrArg hsh e).trans hsh_1)) (by decide)) (fun e => absurd (q3.symm.trans ((congrArg hsh e).trans hsh_2)) (by decide)) w1 (fun e => absurd (q3.symm.trans ((congrArg hsh e).trans hsh_4)) (by decide)) (fun e => absurd (q3.symm.trans ((congrArg hsh e).trans hsh_5)) (by decide)) (fun e => absurd (q3.symm.trans ((congrArg hsh e).trans hsh_6)) (by decide)) (fun e => absurd (q3.symm.trans ((congrArg hsh e).trans hsh_7)) (by decide))] at cont
        refine Wp.vc 400 [211] rfl ?_
        exact ⟨fun _ => cont, fun c => absurd rfl c⟩
  by_cases q6 : hsh w = 3530173
  · refine Wp.sw rfl (t := 184) ?_ ?_
    · simp only [xsw]
      rw [if_neg q5, if_neg q4, if_neg q3, if_pos q6]
    · refine Wp.vc 400 [211] rfl ?_
      refine Wp.callE (j := 0) rfl (Nat.le_of_ble_eq_true rfl) ⟨ra1, ta1⟩ (x_equals sv1 (hc 7 (by decide))) ?_
      by_cases w1 : w = cw 7
      · rw [if_pos w1]
        rw [w1, kwi_6] at cont
        refine Wp.vc 400 [211] rfl ?_
        exact ⟨fun c => absurd c (by decide), fun _ => cont⟩
      · rw [if_neg w1]
        rw [kwi_no (fun e => absurd (q6.symm.trans ((congrArg hsh e).trans hsh_0)) (by decide)) (fun e => absurd (q6.symm.trans ((congrArg hsh e).trans hsh_1)) (by decide)) (fun e => absurd (q6.symm.trans ((congrArg hsh e).trans hsh_2)) (by decide)) (fun e => absurd (q6.symm.trans ((congrArg hsh e).trans hsh_3)) (by decide)) (fun e => absurd (q6.symm.trans ((congrArg hsh e).trans hsh_4)) (by decide)) (fun e => absurd (q6.symm.trans ((congrArg hsh e).trans hsh_5)) (by decide)) w1 (fun e => absurd (q6.symm.trans ((congrArg hsh e).trans hsh_7)) (by decide))] at cont
        refine Wp.vc 400 [211] rfl ?_
        exact ⟨fun _ => cont, fun c => absurd rfl c⟩
  by_cases q0 : hsh w = 3566226
  · refine Wp.sw rfl (t := 100) ?_ ?_
    · simp only [xsw]
      rw [if_neg q5, if_neg q4, if_neg q3, if_neg q6, if_pos q0]
    · refine Wp.vc 400 [211] rfl ?_
      refine Wp.callE (j := 0) rfl (Nat.le_of_ble_eq_true rfl) ⟨ra1, ta1⟩ (x_equals sv1 (hc 1 (by decide))) ?_
      by_cases w1 : w = cw 1
      · rw [if_pos w1]
        rw [w1, kwi_0] at cont
        refine Wp.vc 400 [211] rfl ?_
        exact ⟨fun c => absurd c (by decide), fun _ => cont⟩
      · rw [if_neg w1]
        rw [kwi_no w1 (fun e => absurd (q0.symm.trans ((congrArg hsh e).trans hsh_1)) (by decide)) (fun e => absurd (q0.symm.trans ((congrArg hsh e).trans hsh_2)) (by decide)) (fun e => absurd (q0.symm.trans ((congrArg hsh e).trans hsh_3)) (by decide)) (fun e => absurd (q0.symm.trans ((congrArg hsh e).trans hsh_4)) (by decide)) (fun e => absurd (q0.symm.trans ((congrArg hsh e).trans hsh_5)) (by decide)) (fun e => absurd (q0.symm.trans ((congrArg hsh e).trans hsh_6)) (by decide)) (fun e => absurd (q0.symm.trans ((congrArg hsh e).trans hsh_7)) (by decide))] at cont
        refine Wp.vc 400 [211] rfl ?_
        exact ⟨fun _ => cont, fun c => absurd rfl c⟩
  by_cases q1 : hsh w = 99469088
  · refine Wp.sw rfl (t := 114) ?_ ?_
    · simp only [xsw]
      rw [if_neg q5, if_neg q4, if_neg q3, if_neg q6, if_neg q0, if_pos q1]
    · refine Wp.vc 400 [211] rfl ?_
      refine Wp.callE (j := 0) rfl (Nat.le_of_ble_eq_true rfl) ⟨ra1, ta1⟩ (x_equals sv1 (hc 2 (by decide))) ?_
      by_cases w1 : w = cw 2
      · rw [if_pos w1]
        rw [w1, kwi_1] at cont
        refine Wp.vc 400 [211] rfl ?_
        exact ⟨fun c => absurd c (by decide), fun _ => cont⟩
      · rw [if_neg w1]
        rw [kwi_no (fun e => absurd (q1.symm.trans ((congrArg hsh e).trans hsh_0)) (by decide)) w1 (fun e => absurd (q1.symm.trans ((congrArg hsh e).trans hsh_2)) (by decide)) (fun e => absurd (q1.symm.trans ((congrArg hsh e).trans hsh_3)) (by decide)) (fun e => absurd (q1.symm.trans ((congrArg hsh e).trans hsh_4)) (by decide)) (fun e => absurd (q1.symm.trans ((congrArg hsh e).trans hsh_5)) (by decide)) (fun e => absurd (q1.symm.trans ((congrArg hsh e).trans hsh_6)) (by decide)) (fun e => absurd (q1.symm.trans ((congrArg hsh e).trans hsh_7)) (by decide))] at cont
        refine Wp.vc 400 [211] rfl ?_
        exact ⟨fun _ => cont, fun c => absurd rfl c⟩
  by_cases q7 : hsh w = 104998682
  · refine Wp.sw rfl (t := 199) ?_ ?_
    · simp only [xsw]
      rw [if_neg q5, if_neg q4, if_neg q3, if_neg q6, if_neg q0, if_neg q1, if_pos q7]
    · refine Wp.vc 400 [211] rfl ?_
      refine Wp.callE (j := 0) rfl (Nat.le_of_ble_eq_true rfl) ⟨ra1, ta1⟩ (x_equals sv1 (hc 8 (by decide))) ?_
      by_cases w1 : w = cw 8
      · rw [if_pos w1]
        rw [w1, kwi_7] at cont
        refine Wp.vc 400 [211] rfl ?_
        exact ⟨fun c => absurd c (by decide), fun _ => cont⟩
      · rw [if_neg w1]
        rw [kwi_no (fun e => absurd (q7.symm.trans ((congrArg hsh e).trans hsh_0)) (by decide)) (fun e => absurd (q7.symm.trans ((congrArg hsh e).trans hsh_1)) (by decide)) (fun e => absurd (q7.symm.trans ((congrArg hsh e).trans hsh_2)) (by decide)) (fun e => absurd (q7.symm.trans ((congrArg hsh e).trans hsh_3)) (by decide)) (fun e => absurd (q7.symm.trans ((congrArg hsh e).trans hsh_4)) (by decide)) (fun e => absurd (q7.symm.trans ((congrArg hsh e).trans hsh_5)) (by decide)) (fun e => absurd (q7.symm.trans ((congrArg hsh e).trans hsh_6)) (by decide)) w1] at cont
        refine Wp.vc 400 [211] rfl ?_
        exact ⟨fun _ => cont, fun c => absurd rfl c⟩
  by_cases q2 : hsh w = 113405357
  · refine Wp.sw rfl (t := 128) ?_ ?_
    · simp only [xsw]
      rw [if_neg q5, if_neg q4, if_neg q3, if_neg q6, if_neg q0, if_neg q1, if_neg q7, if_pos q2]
    · refine Wp.vc 400 [211] rfl ?_
      refine Wp.callE (j := 0) rfl (Nat.le_of_ble_eq_true rfl) ⟨ra1, ta1⟩ (x_equals sv1 (hc 3 (by decide))) ?_
      by_cases w1 : w = cw 3
      · rw [if_pos w1]
        rw [w1, kwi_2] at cont
        refine Wp.vc 400 [211] rfl ?_
        exact ⟨fun c => absurd c (by decide), fun _ => cont⟩
      · rw [if_neg w1]
        rw [kwi_no (fun e => absurd (q2.symm.trans ((congrArg hsh e).trans hsh_0)) (by decide)) (fun e => absurd (q2.symm.trans ((congrArg hsh e).trans hsh_1)) (by decide)) w1 (fun e => absurd (q2.symm.trans ((congrArg hsh e).trans hsh_3)) (by decide)) (fun e => absurd (q2.symm.trans ((congrArg hsh e).trans hsh_4)) (by decide)) (fun e => absurd (q2.symm.trans ((congrArg hsh e).trans hsh_5)) (by decide)) (fun e => absurd (q2.symm.trans ((congrArg hsh e).trans hsh_6)) (by decide)) (fun e => absurd (q2.symm.trans ((congrArg hsh e).trans hsh_7)) (by decide))] at cont
        refine Wp.vc 400 [211] rfl ?_
        exact ⟨fun _ => cont, fun c => absurd rfl c⟩
  refine Wp.sw rfl (t := 211) ?_ ?_
  · simp only [xsw]
    rw [if_neg q5, if_neg q4, if_neg q3, if_neg q6, if_neg q0, if_neg q1, if_neg q7, if_neg q2]
  · rw [kwi_no (fun e => q0 ((congrArg hsh e).trans hsh_0)) (fun e => q1 ((congrArg hsh e).trans hsh_1)) (fun e => q2 ((congrArg hsh e).trans hsh_2)) (fun e => q3 ((congrArg hsh e).trans hsh_3)) (fun e => q4 ((congrArg hsh e).trans hsh_4)) (fun e => q5 ((congrArg hsh e).trans hsh_5)) (fun e => q6 ((congrArg hsh e).trans hsh_6)) (fun e => q7 ((congrArg hsh e).trans hsh_7))] at cont
    exact cont
theorem x_kw_89 {d : Nat} {K : XX} {c : Int} {h : XH} {l : LTk} {Q : XO → XH → Prop} {l1 l2 : Option XV} (R : XZ K c h l) (e2 : lk l = 2) (cont : ∀ h1 l1, XZ K c h1 l → FrL (ks K) (kz K) h h1 → Wp (d + 4) 89 211 [some (.inr (.inr (ks K + 2))), l1, some (.inl (kwi (lw l)))] [] h1 Q) (ol1 : l1 = none) (ol2 : l2 = none) : Wp (d + 4) 89 14 [some (.inr (.inr (ks K + 2))), l1, l2] [] h Q := by
  subst ol1
  subst ol2
  have tr := R.tr
  obtain ⟨sv, sx, ho, xw⟩ := R.word e2
  have hs := x_hashCode (d := d) sx xw.2.1 ho xw.2.2
  obtain ⟨ra, ta⟩ := sv.1
  refine Wp.vc 400 [25] rfl ?_
  refine ⟨isF tr rfl, ?_⟩
  refine Wp.callR (j := 0) rfl (Nat.le_of_ble_eq_true rfl) ⟨ra, ta⟩ hs (fun v h1 q => ?_)
  obtain ⟨rfl, p, z1, z2, ho1⟩ := q
  have zz := R.c.1
  have ga := sx.1.1
  have gs := sx.1.2.1
  have pl : FrL (ks K) (kz K) h h1 := p.mono (fun z f _ w => Or.inr (Or.inr ⟨by have := w.1; omega, w.2⟩)) (fun _ _ w => w.elim)
  have fl : ∀ f, xfl h1 (ks K + 2) f = xfl h (ks K + 2) f := fun f => p.2.2.2.1 _ f (by omega) (fun w => by have := w.1; omega)
  have R1 : XZ K c h1 l := by
    refine ⟨⟨⟨R.c.keep pl, (fl 25).trans R.1.1.2.1, ?_, ?_⟩, (fl 25).trans R.1.2.1, (fl 26).trans R.1.2.2.1, (fl 27).trans R.1.2.2.2.1, fun e => (fl 28).trans (R.1.2.2.2.2.1 e), fun e => ?_⟩, R.2.1.trans pl.t, R.2.2⟩
    · rw [z1]
      exact R.1.1.2.2.1
    · rw [z2]
      exact R.1.1.2.2.2
    · rw [fl 29]
      exact ⟨sx.keep (pl.above zz.2.1), ho1⟩
  have e29 := fl 29
  rw [← e29] at sv ⊢
  have sv1 := (R1.word e2).1
  obtain ⟨ra1, ta1⟩ := sv1.1
  have cont := cont h1 (some (.inr (.inr (xfl h1 (ks K + 2) 29)))) R1 pl
  have hc : ∀ k : Nat, k < 41 → StrV h1 (xcs h1 k) (cw k) := fun k hk => R1.cst k hk
  clear hs sv sx ho p pl R z1 z2 ho1 zz ga gs fl R1 e29 ta tr
  generalize lw l = w at *
  generalize xfl h1 (ks K + 2) 29 = a at *
  show Wp _ _ 25 _ (.inl (hsh w) :: []) _ _
  by_cases q5 : hsh w = -991716523
  · refine Wp.sw rfl (t := 170) ?_ ?_
    · simp only [xsw]
      rw [if_pos q5]
    · refine Wp.vc 400 [211] rfl ?_
      refine Wp.callE (j := 0) rfl (Nat.le_of_ble_eq_true rfl) ⟨ra1, ta1⟩ (x_equals sv1 (hc 6 (by decide))) ?_
      by_cases w1 : w = cw 6
      · rw [if_pos w1]
        rw [w1, kwi_5] at cont
        refine Wp.vc 400 [211] rfl ?_
        exact ⟨fun c => absurd c (by decide), fun _ => cont⟩
      · rw [if_neg w1]
        rw [kwi_no (fun e => absurd (q5.symm.trans ((congrArg hsh e).trans hsh_0)) (by decide)) (fun e => absurd (q5.symm.trans ((congrArg hsh e).trans hsh_1)) (by decide)) (fun e => absurd (q5.symm.trans ((congrArg hsh e).trans hsh_2)) (by decide)) (fun e => absurd (q5.symm.trans ((congrArg hsh e).trans hsh_3)) (by decide)) (fun e => absurd (q5.symm.trans ((congrArg hsh e).trans hsh_4)) (by decide)) w1 (fun e => absurd (q5.symm.trans ((congrArg hsh e).trans hsh_6)) (by decide)) (fun e => absurd (q5.symm.trans ((congrArg hsh e).trans hsh_7)) (by decide))] at cont
        refine Wp.vc 400 [211] rfl ?_
        exact ⟨fun _ => cont, fun c => absurd rfl c⟩
  by_cases q4 : hsh w = -891990013
  · refine Wp.sw rfl (t := 156) ?_ ?_
    · simp only [xsw]
      rw [if_neg q5, if_pos q4]
    · refine Wp.vc 400 [211] rfl ?_
      refine Wp.callE (j := 0) rfl (Nat.le_of_ble_eq_true rfl) ⟨ra1, ta1⟩ (x_equals sv1 (hc 5 (by decide))) ?_
      by_cases w1 : w = cw 5
      · rw [if_pos w1]
        rw [w1, kwi_4] at cont
        refine Wp.vc 400 [211] rfl ?_
        exact ⟨fun c => absurd c (by decide), fun _ => cont⟩
      · rw [if_neg w1]
        rw [kwi_no (fun e => absurd (q4.symm.trans ((congrArg hsh e).trans hsh_0)) (by decide)) (fun e => absurd (q4.symm.trans ((congrArg hsh e).trans hsh_1)) (by decide)) (fun e => absurd (q4.symm.trans ((congrArg hsh e).trans hsh_2)) (by decide)) (fun e => absurd (q4.symm.trans ((congrArg hsh e).trans hsh_3)) (by decide)) w1 (fun e => absurd (q4.symm.trans ((congrArg hsh e).trans hsh_5)) (by decide)) (fun e => absurd (q4.symm.trans ((congrArg hsh e).trans hsh_6)) (by decide)) (fun e => absurd (q4.symm.trans ((congrArg hsh e).trans hsh_7)) (by decide))] at cont
        refine Wp.vc 400 [211] rfl ?_
        exact ⟨fun _ => cont, fun c => absurd rfl c⟩
  by_cases q3 : hsh w = 3417674
  · refine Wp.sw rfl (t := 142) ?_ ?_
    · simp only [xsw]
      rw [if_neg q5, if_neg q4, if_pos q3]
    · refine Wp.vc 400 [211] rfl ?_
      refine Wp.callE (j := 0) rfl (Nat.le_of_ble_eq_true rfl) ⟨ra1, ta1⟩ (x_equals sv1 (hc 4 (by decide))) ?_
      by_cases w1 : w = cw 4
      · rw [if_pos w1]
        rw [w1, kwi_3] at cont
        refine Wp.vc 400 [211] rfl ?_
        exact ⟨fun c => absurd c (by decide), fun _ => cont⟩
      · rw [if_neg w1]
        rw [kwi_no (fun e => absurd (q3.symm.trans ((congrArg hsh e).trans hsh_0)) (by decide)) (fun e => absurd (q3.symm.trans ((congrArg hsh e).trans hsh_1)) (by decide)) (fun e => absurd (q3.symm.trans ((congrArg hsh e).trans hsh_2)) (by decide)) w1 (fun e => absurd (q3.symm.trans ((congrArg hsh e).trans hsh_4)) (by decide)) (fun e => absurd (q3.symm.trans ((congrArg hsh e).trans hsh_5)) (by decide)) (fun e => absurd (q3.symm.trans ((congrArg hsh e).trans hsh_6)) (by decide)) (fun e => absurd (q3.symm.trans ((congrArg hsh e).trans hsh_7)) (by decide))] at cont
        refine Wp.vc 400 [211] rfl ?_
        exact ⟨fun _ => cont, fun c => absurd rfl c⟩
  by_cases q6 : hsh w = 3530173
  · refine Wp.sw rfl (t := 184) ?_ ?_
    · simp only [xsw]
      rw [if_neg q5, if_neg q4, if_neg q3, if_pos q6]
    · refine Wp.vc 400 [211] rfl ?_
      refine Wp.callE (j := 0) rfl (Nat.le_of_ble_eq_true rfl) ⟨ra1, ta1⟩ (x_equals sv1 (hc 7 (by decide))) ?_
      by_cases w1 : w = cw 7
      · rw [if_pos w1]
        rw [w1, kwi_6] at cont
        refine Wp.vc 400 [211] rfl ?_
        exact ⟨fun c => absurd c (by decide), fun _ => cont⟩
      · rw [if_neg w1]
        rw [kwi_no (fun e => absurd (q6.symm.trans ((congrArg hsh e).trans hsh_0)) (by decide)) (fun e => absurd (q6.symm.trans ((congrArg hsh e).trans hsh_1)) (by decide)) (fun e => absurd (q6.symm.trans ((congrArg hsh e).trans hsh_2)) (by decide)) (fun e => absurd (q6.symm.trans ((congrArg hsh e).trans hsh_3)) (by decide)) (fun e => absurd (q6.symm.trans ((congrArg hsh e).trans hsh_4)) (by decide)) (fun e => absurd (q6.symm.trans ((congrArg hsh e).trans hsh_5)) (by decide)) w1 (fun e => absurd (q6.symm.trans ((congrArg hsh e).trans hsh_7)) (by decide))] at cont
        refine Wp.vc 400 [211] rfl ?_
        exact ⟨fun _ => cont, fun c => absurd rfl c⟩
  by_cases q0 : hsh w = 3566226
  · refine Wp.sw rfl (t := 100) ?_ ?_
    · simp only [xsw]
      rw [if_neg q5, if_neg q4, if_neg q3, if_neg q6, if_pos q0]
    · refine Wp.vc 400 [211] rfl ?_
      refine Wp.callE (j := 0) rfl (Nat.le_of_ble_eq_true rfl) ⟨ra1, ta1⟩ (x_equals sv1 (hc 1 (by decide))) ?_
      by_cases w1 : w = cw 1
      · rw [if_pos w1]
        rw [w1, kwi_0] at cont
        refine Wp.vc 400 [211] rfl ?_
        exact ⟨fun c => absurd c (by decide), fun _ => cont⟩
      · rw [if_neg w1]
        rw [kwi_no w1 (fun e => absurd (q0.symm.trans ((congrArg hsh e).trans hsh_1)) (by decide)) (fun e => absurd (q0.symm.trans ((congrArg hsh e).trans hsh_2)) (by decide)) (fun e => absurd (q0.symm.trans ((congrArg hsh e).trans hsh_3)) (by decide)) (fun e => absurd (q0.symm.trans ((congrArg hsh e).trans hsh_4)) (by decide)) (fun e => absurd (q0.symm.trans ((congrArg hsh e).trans hsh_5)) (by decide)) (fun e => absurd (q0.symm.trans ((congrArg hsh e).trans hsh_6)) (by decide)) (fun e => absurd (q0.symm.trans ((congrArg hsh e).trans hsh_7)) (by decide))] at cont
        refine Wp.vc 400 [211] rfl ?_
        exact ⟨fun _ => cont, fun c => absurd rfl c⟩
  by_cases q1 : hsh w = 99469088
  · refine Wp.sw rfl (t := 114) ?_ ?_
    · simp only [xsw]
      rw [if_neg q5, if_neg q4, if_neg q3, if_neg q6, if_neg q0, if_pos q1]
    · refine Wp.vc 400 [211] rfl ?_
      refine Wp.callE (j := 0) rfl (Nat.le_of_ble_eq_true rfl) ⟨ra1, ta1⟩ (x_equals sv1 (hc 2 (by decide))) ?_
      by_cases w1 : w = cw 2
      · rw [if_pos w1]
        rw [w1, kwi_1] at cont
        refine Wp.vc 400 [211] rfl ?_
        exact ⟨fun c => absurd c (by decide), fun _ => cont⟩
      · rw [if_neg w1]
        rw [kwi_no (fun e => absurd (q1.symm.trans ((congrArg hsh e).trans hsh_0)) (by decide)) w1 (fun e => absurd (q1.symm.trans ((congrArg hsh e).trans hsh_2)) (by decide)) (fun e => absurd (q1.symm.trans ((congrArg hsh e).trans hsh_3)) (by decide)) (fun e => absurd (q1.symm.trans ((congrArg hsh e).trans hsh_4)) (by decide)) (fun e => absurd (q1.symm.trans ((congrArg hsh e).trans hsh_5)) (by decide)) (fun e => absurd (q1.symm.trans ((congrArg hsh e).trans hsh_6)) (by decide)) (fun e => absurd (q1.symm.trans ((congrArg hsh e).trans hsh_7)) (by decide))] at cont
        refine Wp.vc 400 [211] rfl ?_
        exact ⟨fun _ => cont, fun c => absurd rfl c⟩
  by_cases q7 : hsh w = 104998682
  · refine Wp.sw rfl (t := 199) ?_ ?_
    · simp only [xsw]
      rw [if_neg q5, if_neg q4, if_neg q3, if_neg q6, if_neg q0, if_neg q1, if_pos q7]
    · refine Wp.vc 400 [211] rfl ?_
      refine Wp.callE (j := 0) rfl (Nat.le_of_ble_eq_true rfl) ⟨ra1, ta1⟩ (x_equals sv1 (hc 8 (by decide))) ?_
      by_cases w1 : w = cw 8
      · rw [if_pos w1]
        rw [w1, kwi_7] at cont
        refine Wp.vc 400 [211] rfl ?_
        exact ⟨fun c => absurd c (by decide), fun _ => cont⟩
      · rw [if_neg w1]
        rw [kwi_no (fun e => absurd (q7.symm.trans ((congrArg hsh e).trans hsh_0)) (by decide)) (fun e => absurd (q7.symm.trans ((congrArg hsh e).trans hsh_1)) (by decide)) (fun e => absurd (q7.symm.trans ((congrArg hsh e).trans hsh_2)) (by decide)) (fun e => absurd (q7.symm.trans ((congrArg hsh e).trans hsh_3)) (by decide)) (fun e => absurd (q7.symm.trans ((congrArg hsh e).trans hsh_4)) (by decide)) (fun e => absurd (q7.symm.trans ((congrArg hsh e).trans hsh_5)) (by decide)) (fun e => absurd (q7.symm.trans ((congrArg hsh e).trans hsh_6)) (by decide)) w1] at cont
        refine Wp.vc 400 [211] rfl ?_
        exact ⟨fun _ => cont, fun c => absurd rfl c⟩
  by_cases q2 : hsh w = 113405357
  · refine Wp.sw rfl (t := 128) ?_ ?_
    · simp only [xsw]
      rw [if_neg q5, if_neg q4, if_neg q3, if_neg q6, if_neg q0, if_neg q1, if_neg q7, if_pos q2]
    · refine Wp.vc 400 [211] rfl ?_
      refine Wp.callE (j := 0) rfl (Nat.le_of_ble_eq_true rfl) ⟨ra1, ta1⟩ (x_equals sv1 (hc 3 (by decide))) ?_
      by_cases w1 : w = cw 3
      · rw [if_pos w1]
        rw [w1, kwi_2] at cont
        refine Wp.vc 400 [211] rfl ?_
        exact ⟨fun c => absurd c (by decide), fun _ => cont⟩
      · rw [if_neg w1]
        rw [kwi_no (fun e => absurd (q2.symm.trans ((congrArg hsh e).trans hsh_0)) (by decide)) (fun e => absurd (q2.symm.trans ((congrArg hsh e).trans hsh_1)) (by decide)) w1 (fun e => absurd (q2.symm.trans ((congrArg hsh e).trans hsh_3)) (by decide)) (fun e => absurd (q2.symm.trans ((congrArg hsh e).trans hsh_4)) (by decide)) (fun e => absurd (q2.symm.trans ((congrArg hsh e).trans hsh_5)) (by decide)) (fun e => absurd (q2.symm.trans ((congrArg hsh e).trans hsh_6)) (by decide)) (fun e => absurd (q2.symm.trans ((congrArg hsh e).trans hsh_7)) (by decide))] at cont
        refine Wp.vc 400 [211] rfl ?_
        exact ⟨fun _ => cont, fun c => absurd rfl c⟩
  refine Wp.sw rfl (t := 211) ?_ ?_
  · simp only [xsw]
    rw [if_neg q5, if_neg q4, if_neg q3, if_neg q6, if_neg q0, if_neg q1, if_neg q7, if_neg q2]
  · rw [kwi_no (fun e => q0 ((congrArg hsh e).trans hsh_0)) (fun e => q1 ((congrArg hsh e).trans hsh_1)) (fun e => q2 ((congrArg hsh e).trans hsh_2)) (fun e => q3 ((congrArg hsh e).trans hsh_3)) (fun e => q4 ((congrArg hsh e).trans hsh_4)) (fun e => q5 ((congrArg hsh e).trans hsh_5)) (fun e => q6 ((congrArg hsh e).trans hsh_6)) (fun e => q7 ((congrArg hsh e).trans hsh_7))] at cont
    exact cont
theorem kwi_rg (w : List Int) : -1 ≤ kwi w ∧ kwi w ≤ 7 := by
  unfold kwi
  repeat' split
  all_goals decide
theorem x_mustName {d : Nat} {K : XX} {c : Int} {h : XH} {l : LTk} (R : XZ K c h l) : WpM (d + 5) 89 [.inr (.inr (ks K + 2))] h (XEn K c (if isNm l then (.inl () : Re Unit) else .inr (1, la l)) (fun _ v h' => v = none ∧ XZ K c h' l ∧ FrL (ks K) (kz K) h h')) := by
  have tr := R.tr
  have f26 := R.1.2.2.1
  refine WpM.of rfl (Wp.vc 400 [14] rfl ?_)
  rw [f26]
  refine ⟨isF tr rfl, fun q => ?_, fun q => ?_⟩
  · refine x_kw_89 (d := d + 1) R q (fun h1 l1 R1 p1 => ?_) rfl rfl
    have rg := kwi_rg (lw l)
    by_cases w : kwi (lw l) = -1
    · rw [if_pos ⟨q, w⟩, w]
      refine Wp.vc 400 [] rfl ?_
      exact ⟨trivial, XEn.ret rfl ⟨rfl, R1, p1⟩⟩
    · rw [if_neg (fun z => w z.2)]
      generalize kwi (lw l) = i at *
      have at260 : Wp (d + 5) 89 260 [some (.inr (.inr (ks K + 2))), l1, some (.inl i)] [] h1 (XEn K c (.inr (1, la l) : Re Unit) (fun _ v h' => v = none ∧ XZ K c h' l ∧ FrL (ks K) (kz K) h h')) := by
        refine Wp.vc 400 [] rfl ?_
        exact R1.failK rfl rfl (Nat.le_of_ble_eq_true rfl) rfl rfl
      refine Wp.vc 400 [212] rfl ?_
      refine Wp.sw rfl (t := 260) ?_ at260
      rcases (by omega : i = 0 ∨ i = 1 ∨ i = 2 ∨ i = 3 ∨ i = 4 ∨ i = 5 ∨ i = 6 ∨ i = 7) with rfl | rfl | rfl | rfl | rfl | rfl | rfl | rfl <;> rfl
  · rw [if_neg (fun z => q z.1)]
    exact R.failK rfl rfl (Nat.le_of_ble_eq_true rfl) rfl rfl
