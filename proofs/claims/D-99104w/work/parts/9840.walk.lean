/-! WALKS, 79: WrongRoom's reader: a line, all lines -/
set_option maxRecDepth 100000
set_option maxHeartbeats 4000000
theorem rb_id {α : Type} (r : Re α) : r = rb r (fun a => .inl a) := by cases r <;> rfl
theorem x_line {d : Nat} {K : XX} {c : Int} {h : XH} {l : LTk} {P : PT} (R : XZ K c h l) (X : XRt K h P) (I : PI P (le_ l)) : WpM (d + 9) 79 [.inr (.inr (ks K + 2))] h (XLin K (c + 1) (lLine (kt K) (kn K) P l)) := by
  have tr := R.tr
  have f26 := R.1.2.2.1
  unfold lLine
  refine WpM.of rfl (Wp.vc 400 [14] rfl ?_)
  rw [f26]
  refine ⟨isF tr rfl, fun e2 => ?_, fun e2 => ?_⟩
  · rw [if_neg (fun w => w e2)]
    refine x_kw_79 (d := d + 5) R e2 (fun h1 l1 R1 p1 => ?_) rfl rfl
    have X1 := X.keep p1 R.c.1 I.1
    have done : ∀ (r : Re (PT × LTk)) (y : Nat) (pc : Nat) (l1 l2 : Option XV), WpM (d + 8) y [.inr (.inr (ks K + 2))] h1 (XLin K (c + 1) r) → xstK 79 pc 0 [.inr (.inr (ks K + 2))] = some (pc + 3, some 1, y, [.inr (.inr (ks K + 2))], []) → (∀ h2, xrun 1 79 (pc + 3) [some (.inr (.inr (ks K + 2))), l1, l2] [] h2 True = some (True, 322, [some (.inr (.inr (ks K + 2))), l1, l2], [], h2)) → Wp (d + 9) 79 pc [some (.inr (.inr (ks K + 2))), l1, l2] [.inr (.inr (ks K + 2))] h1 (XLin K (c + 1) r) := by
      intro r y pc l1 l2 hm e er
      refine XEn.bind (k := fun q => .inl q) e (Nat.le_of_ble_eq_true rfl) ⟨true, R1.tr⟩ hm rfl (rb_id r) (fun q v h2 e3 z => ?_)
      obtain ⟨rfl, R2, X2⟩ := z
      refine Wp.run 1 (er h2) trivial ?_
      refine Wp.vc 400 [] rfl ?_
      exact ⟨trivial, XEn.ret rfl ⟨rfl, R2, X2⟩⟩
    by_cases q1 : lw l = cw 1
    · rw [if_pos q1, q1, kwi_0]
      refine Wp.vc 400 [212] rfl ?_
      refine Wp.sw rfl (t := 260) rfl ?_
      refine Wp.vc 400 [264] rfl ?_
      exact done _ 81 261 _ _ (x_townLine (d := d) R1 X1 I) rfl (fun _ => rfl)
    · rw [if_neg q1]
      by_cases q2 : lw l = cw 2
      · rw [if_pos q2, q2, kwi_1]
        refine Wp.vc 400 [212] rfl ?_
        refine Wp.sw rfl (t := 267) rfl ?_
        refine Wp.vc 400 [271] rfl ?_
        exact done _ 86 268 _ _ (x_houseLine (d := d) R1 X1 I) rfl (fun _ => rfl)
      · rw [if_neg q2]
        by_cases q3 : lw l = cw 3
        · rw [if_pos q3, q3, kwi_2]
          refine Wp.vc 400 [212] rfl ?_
          refine Wp.sw rfl (t := 274) rfl ?_
          refine Wp.vc 400 [278] rfl ?_
          exact done _ 91 275 _ _ (x_wrongLine (d := d) R1 X1 I) rfl (fun _ => rfl)
        · rw [if_neg q3]
          by_cases q4 : lw l = cw 4
          · rw [if_pos q4, q4, kwi_3]
            refine Wp.vc 400 [212] rfl ?_
            refine Wp.sw rfl (t := 281) rfl ?_
            refine Wp.vc 400 [285] rfl ?_
            exact done _ 93 282 _ _ (x_openLine (d := d) R1 X1 I) rfl (fun _ => rfl)
          · rw [if_neg q4]
            by_cases q5 : lw l = cw 5
            · rw [if_pos q5, q5, kwi_4]
              refine Wp.vc 400 [212] rfl ?_
              refine Wp.sw rfl (t := 288) rfl ?_
              refine Wp.vc 400 [292] rfl ?_
              exact done _ 94 289 _ _ (x_streetLine (d := d) R1 X1 I) rfl (fun _ => rfl)
            · rw [if_neg q5]
              by_cases q6 : lw l = cw 6
              · rw [if_pos q6, q6, kwi_5]
                refine Wp.vc 400 [212] rfl ?_
                refine Wp.sw rfl (t := 295) rfl ?_
                refine Wp.vc 400 [299] rfl ?_
                exact done _ 96 296 _ _ (x_personLine (d := d) R1 X1 I) rfl (fun _ => rfl)
              · rw [if_neg q6]
                by_cases q7 : lw l = cw 7
                · rw [if_pos q7, q7, kwi_6]
                  refine Wp.vc 400 [212] rfl ?_
                  refine Wp.sw rfl (t := 302) rfl ?_
                  refine Wp.vc 400 [306] rfl ?_
                  exact done _ 97 303 _ _ (x_signLine (d := d) R1 X1 I) rfl (fun _ => rfl)
                · rw [if_neg q7]
                  by_cases q8 : lw l = cw 8
                  · rw [if_pos q8, q8, kwi_7]
                    refine Wp.vc 400 [212] rfl ?_
                    refine Wp.sw rfl (t := 309) rfl ?_
                    refine Wp.vc 400 [313] rfl ?_
                    exact done _ 99 310 _ _ (x_noiseLine (d := d) R1 X1 I) rfl (fun _ => rfl)
                  · rw [if_neg q8, kwi_no q1 q2 q3 q4 q5 q6 q7 q8]
                    refine Wp.vc 400 [212] rfl ?_
                    refine Wp.sw rfl (t := 316) rfl ?_
                    refine Wp.vc 400 [] rfl ?_
                    exact (R1.mono (c' := c + 1) (by omega)).failK rfl rfl (Nat.le_of_ble_eq_true rfl) rfl rfl
  · rw [if_pos e2]
    exact (R.mono (c' := c + 1) (by omega)).failK rfl rfl (Nat.le_of_ble_eq_true rfl) rfl rfl
/-- what is left behind a line -/
def rEnd (q : PT × LTk) : Re XTw := if lk q.2 ≠ 0 then .inr (1, la q.2) else if tnh (pT q.1) < 2 then .inr (6, la q.2) else .inl (pT q.1)
def XRdEnd (K : XX) : XTw → Option XV → XH → Prop := fun T v h' => ∃ t, v = some (.inr (.inr t)) ∧ TownX h' (kz K) t T ∧ TOK T ∧ FrT (ks K) (kz K) (kh K) h' ∧ xsz h' ≤ kz K + 3 * kn K + 6 ∧ xsl h' ≤ ky K + 12 * (2 * kn K + 6)
theorem rb_rb {α β γ : Type} (r : Re α) (f : α → Re β) (g : β → Re γ) : rb (rb r f) g = rb r (fun a => rb (f a) g) := by cases r <;> rfl
theorem x_lines {d : Nat} {K : XX} {l1 : Option XV} : ∀ (m : Nat) (c : Int) (h : XH) (l : LTk) (P : PT), XZ K c h l → XRt K h P → PI P (le_ l) → kn K - le_ l < m → c ≤ 5 + le_ l → Wp (d + 10) 74 34 [some (.inr (.inr (ks K + 2))), l1] [] h (XEn K (6 + kn K) (rb (if lk l = 59 then lAll (kt K) (kn K) m P (ga (kt K) (kn K) l) else .inl (P, l)) rEnd) (XRdEnd K)) := by
  intro m
  induction m with
  | zero =>
    intro c h l P R X I hm hc
    have := R.2.2.1
    omega
  | succ m ih =>
    intro c h l P R X I hm hc
    have tr := R.tr
    have f26 := R.1.2.2.1
    have ln := R.2.2.1
    have zz := R.c.1
    have n0 := R.c.2.2.2.1
    by_cases e : lk l = 59
    · rw [if_pos e]
      have go : rb (lAll (kt K) (kn K) (m + 1) P (ga (kt K) (kn K) l)) rEnd = rb (lLine (kt K) (kn K) P (ga (kt K) (kn K) l)) (fun q => rb (if lk q.2 = 59 then lAll (kt K) (kn K) m q.1 (ga (kt K) (kn K) q.2) else .inl q) rEnd) := rb_rb _ _ _
      rw [go]
      refine Wp.vc 400 [54] rfl ?_
      rw [f26]
      refine ⟨isF tr rfl, fun w => absurd e w, fun _ => ?_⟩
      refine R.nextK rfl (Nat.le_of_ble_eq_true rfl) (fun h1 R1 p1 => ?_)
      have X1 := X.keep p1 zz I.1
      have l1n := ga_adv (tp := kt K) R.2.2
      have l2n := l1n.1.1
      refine Wp.vc 400 [54] rfl ?_
      refine XEn.bind (j := 0) rfl (Nat.le_of_ble_eq_true rfl) ⟨true, R1.tr⟩ ((x_line (d := d) R1 X1 (I.mono l1n.2)).up (c' := 6 + kn K) (by omega)) rfl rfl (fun q v h2 e2 z => ?_)
      obtain ⟨rfl, R2, X2⟩ := z
      obtain ⟨-, I2, L2, lt⟩ := lLine_ok e2 (I.mono l1n.2) R1.2.2
      have nx := ih (c + 1) h2 q.2 q.1 R2 X2 I2 (by have := l1n.2; omega) (by have := l1n.2; omega)
      refine Wp.vc 400 [34] rfl ?_
      exact nx
    · rw [if_neg e]
      have R := R.mono (c' := 6 + kn K) (by omega)
      have f31 := X.2.1
      have f111 : xfl h (xfl h (ks K + 2) 30) 111 = tnh (pT P) := X.1.1.2.2.1.2.2.1
      have ct := X.1.1.1.2.2
      show Wp _ _ _ _ _ _ (XEn K (6 + kn K) (if lk l ≠ 0 then .inr (1, la l) else if tnh (pT P) < 2 then .inr (6, la l) else .inl (pT P)) (XRdEnd K))
      have bad : tnh (pT P) < 2 → Wp (d + 10) 74 85 [some (.inr (.inr (ks K + 2))), l1] [] h (XEn K (6 + kn K) (if tnh (pT P) < 2 then .inr (6, la l) else .inl (pT P) : Re XTw) (XRdEnd K)) := by
        intro w
        rw [if_pos w]
        refine Wp.vc 400 [] rfl ?_
        exact R.failK rfl rfl (Nat.le_of_ble_eq_true rfl) rfl rfl
      refine Wp.vc 400 [54] rfl ?_
      rw [f26]
      refine ⟨isF tr rfl, fun _ => ?_, fun w => absurd e w⟩
      refine Wp.vc 400 [85, 92] rfl ?_
      rw [f26]
      refine ⟨isF tr rfl, fun e0 => ?_, fun e0 => ?_⟩
      · rw [if_neg (fun w => w e0), f31, f111]
        refine ⟨isF tr rfl, fun w => bad ?_, fun w => ⟨isF tr rfl, isF ct rfl, fun w2 => ?_, fun w2 => bad (by omega)⟩⟩
        · by_cases z : tsc (pT P) 0 = 0
          · have := I.2.2.2.2.2.1.2.2 z
            omega
          · rw [if_neg z] at w
            exact absurd w (by decide)
        · rw [if_neg (by omega)]
          have b := R.1.1.2.2
          refine Wp.vc 400 [] rfl ?_
          exact ⟨isF tr rfl, trivial, XEn.ret rfl ⟨_, rfl, X.1.1, I.ok w2, R.2.1, by omega, by omega⟩⟩
      · rw [if_pos e0]
        exact R.failK rfl rfl (Nat.le_of_ble_eq_true rfl) rfl rfl
