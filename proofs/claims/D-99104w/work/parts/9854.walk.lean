/-! WALKS, 93: the model's reader: all lines -/
set_option maxRecDepth 100000
set_option maxHeartbeats 4000000
theorem m_readLine {d : Nat} {K : XX} {h : XH} {l : LTk} {P : PT} (Z : MZ K h (.inl l)) (R : MRt K h P (le_ l)) (I : MI P (le_ l)) : WpM (d + 11) 148 [.inr (.inr (ks K))] h (MLin K h P (le_ l) (lLine (kt K) (kn K) P l)) := by
  have tm := Z.tm
  have ret : ∀ (h2 : XH) (v : Option XV) (r : Re (PT × LTk)), (v = none ∧ MZ K h2 (rsnd r) ∧ FrMT K h h2 ∧ (∀ q, r = .inl q → MRt K h2 q.1 (le_ q.2)) ∧ ∀ f, r = .inr f → MRt K h2 P (le_ l)) → Wp (d + 11) 148 133 [some (.inr (.inr (ks K)))] [] h2 (MLin K h P (le_ l) r) := by
    intro h2 v r q
    obtain ⟨rfl, q⟩ := q
    refine Wp.vc 400 [] rfl ?_
    exact ⟨trivial, _, rfl, rfl, q⟩
  have none_ : lLine (kt K) (kn K) P l = .inr (1, la l) → Wp (d + 11) 148 128 [some (.inr (.inr (ks K)))] [] h (MLin K h P (le_ l) (lLine (kt K) (kn K) P l)) := by
    intro e
    refine Wp.vc 400 [133] rfl ?_
    refine Wp.callR (j := 0) rfl (Nat.le_of_ble_eq_true rfl) ⟨true, tm⟩ (m_flaw (d := d + 10) Z) (fun v h2 q => ?_)
    obtain ⟨rfl, Z2, p2⟩ := q
    rw [e]
    exact ret h2 none _ ⟨rfl, Z2, p2.mt, fun q w => (by cases w), fun f w => R.keep p2 Z⟩
  by_cases e2 : lk l = 2
  · have eL : lLine (kt K) (kn K) P l = _ := if_neg (fun w => w e2)
    rw [eL] at none_ ⊢
    refine WpM.of rfl (Wp.vc 400 [16, 128, 133] rfl ?_)
    refine Wp.callE (j := 0) rfl (Nat.le_of_ble_eq_true rfl) ⟨true, tm⟩ (m_isWord (d := d + 5) Z (k := 21) (by decide) (xwk (by decide) (by decide))) ?_
    by_cases q0 : lw l = cw 21
    · rw [xb_pos (show isWd (.inl l) (cw 21) from ⟨e2, q0⟩), if_pos (show lw l = cw 1 from q0)]
      refine Wp.vc 400 [16, 128, 133] rfl ?_
      refine ⟨fun w => absurd w (by decide), fun _ => ?_⟩
      refine Wp.callR (j := 0) rfl (Nat.le_of_ble_eq_true rfl) ⟨true, tm⟩ (m_readTown (d := d + 2) Z R I e2) (fun v h2 q => ?_)
      have a := ret h2 v _ q
      obtain ⟨rfl, q⟩ := q
      refine Wp.vc 400 [133] rfl ?_
      exact a
    · rw [if_neg (show ¬ lw l = cw 1 from q0)] at none_ ⊢
      rw [xb_neg (show ¬ isWd (.inl l) (cw 21) from fun w => q0 w.2)]
      refine Wp.vc 400 [16, 128, 133] rfl ?_
      refine ⟨fun _ => ?_, fun w => absurd rfl w⟩
      refine Wp.vc 400 [32, 128, 133] rfl ?_
      refine Wp.callE (j := 0) rfl (Nat.le_of_ble_eq_true rfl) ⟨true, tm⟩ (m_isWord (d := d + 5) Z (k := 22) (by decide) (xwk (by decide) (by decide))) ?_
      by_cases q1 : lw l = cw 22
      · rw [xb_pos (show isWd (.inl l) (cw 22) from ⟨e2, q1⟩), if_pos (show lw l = cw 2 from q1)]
        refine Wp.vc 400 [32, 128, 133] rfl ?_
        refine ⟨fun w => absurd w (by decide), fun _ => ?_⟩
        refine Wp.callR (j := 0) rfl (Nat.le_of_ble_eq_true rfl) ⟨true, tm⟩ (m_readHouseLine (d := d + 2) Z R I e2) (fun v h2 q => ?_)
        have a := ret h2 v _ q
        obtain ⟨rfl, q⟩ := q
        refine Wp.vc 400 [133] rfl ?_
        exact a
      · rw [if_neg (show ¬ lw l = cw 2 from q1)] at none_ ⊢
        rw [xb_neg (show ¬ isWd (.inl l) (cw 22) from fun w => q1 w.2)]
        refine Wp.vc 400 [32, 128, 133] rfl ?_
        refine ⟨fun _ => ?_, fun w => absurd rfl w⟩
        refine Wp.vc 400 [48, 128, 133] rfl ?_
        refine Wp.callE (j := 0) rfl (Nat.le_of_ble_eq_true rfl) ⟨true, tm⟩ (m_isWord (d := d + 5) Z (k := 23) (by decide) (xwk (by decide) (by decide))) ?_
        by_cases q2 : lw l = cw 23
        · rw [xb_pos (show isWd (.inl l) (cw 23) from ⟨e2, q2⟩), if_pos (show lw l = cw 3 from q2)]
          refine Wp.vc 400 [48, 128, 133] rfl ?_
          refine ⟨fun w => absurd w (by decide), fun _ => ?_⟩
          refine Wp.callR (j := 0) rfl (Nat.le_of_ble_eq_true rfl) ⟨true, tm⟩ (m_readWrong (d := d) Z R I e2) (fun v h2 q => ?_)
          have a := ret h2 v _ q
          obtain ⟨rfl, q⟩ := q
          refine Wp.vc 400 [133] rfl ?_
          exact a
        · rw [if_neg (show ¬ lw l = cw 3 from q2)] at none_ ⊢
          rw [xb_neg (show ¬ isWd (.inl l) (cw 23) from fun w => q2 w.2)]
          refine Wp.vc 400 [48, 128, 133] rfl ?_
          refine ⟨fun _ => ?_, fun w => absurd rfl w⟩
          refine Wp.vc 400 [64, 128, 133] rfl ?_
          refine Wp.callE (j := 0) rfl (Nat.le_of_ble_eq_true rfl) ⟨true, tm⟩ (m_isWord (d := d + 5) Z (k := 24) (by decide) (xwk (by decide) (by decide))) ?_
          by_cases q3 : lw l = cw 24
          · rw [xb_pos (show isWd (.inl l) (cw 24) from ⟨e2, q3⟩), if_pos (show lw l = cw 4 from q3)]
            refine Wp.vc 400 [64, 128, 133] rfl ?_
            refine ⟨fun w => absurd w (by decide), fun _ => ?_⟩
            refine Wp.callR (j := 0) rfl (Nat.le_of_ble_eq_true rfl) ⟨true, tm⟩ (m_readOpen (d := d) Z R I e2) (fun v h2 q => ?_)
            have a := ret h2 v _ q
            obtain ⟨rfl, q⟩ := q
            refine Wp.vc 400 [133] rfl ?_
            exact a
          · rw [if_neg (show ¬ lw l = cw 4 from q3)] at none_ ⊢
            rw [xb_neg (show ¬ isWd (.inl l) (cw 24) from fun w => q3 w.2)]
            refine Wp.vc 400 [64, 128, 133] rfl ?_
            refine ⟨fun _ => ?_, fun w => absurd rfl w⟩
            refine Wp.vc 400 [80, 128, 133] rfl ?_
            refine Wp.callE (j := 0) rfl (Nat.le_of_ble_eq_true rfl) ⟨true, tm⟩ (m_isWord (d := d + 5) Z (k := 25) (by decide) (xwk (by decide) (by decide))) ?_
            by_cases q4 : lw l = cw 25
            · rw [xb_pos (show isWd (.inl l) (cw 25) from ⟨e2, q4⟩), if_pos (show lw l = cw 5 from q4)]
              refine Wp.vc 400 [80, 128, 133] rfl ?_
              refine ⟨fun w => absurd w (by decide), fun _ => ?_⟩
              refine Wp.callR (j := 0) rfl (Nat.le_of_ble_eq_true rfl) ⟨true, tm⟩ (m_readStreet (d := d) Z R I e2) (fun v h2 q => ?_)
              have a := ret h2 v _ q
              obtain ⟨rfl, q⟩ := q
              refine Wp.vc 400 [133] rfl ?_
              exact a
            · rw [if_neg (show ¬ lw l = cw 5 from q4)] at none_ ⊢
              rw [xb_neg (show ¬ isWd (.inl l) (cw 25) from fun w => q4 w.2)]
              refine Wp.vc 400 [80, 128, 133] rfl ?_
              refine ⟨fun _ => ?_, fun w => absurd rfl w⟩
              refine Wp.vc 400 [96, 128, 133] rfl ?_
              refine Wp.callE (j := 0) rfl (Nat.le_of_ble_eq_true rfl) ⟨true, tm⟩ (m_isWord (d := d + 5) Z (k := 26) (by decide) (xwk (by decide) (by decide))) ?_
              by_cases q5 : lw l = cw 26
              · rw [xb_pos (show isWd (.inl l) (cw 26) from ⟨e2, q5⟩), if_pos (show lw l = cw 6 from q5)]
                refine Wp.vc 400 [96, 128, 133] rfl ?_
                refine ⟨fun w => absurd w (by decide), fun _ => ?_⟩
                refine Wp.callR (j := 0) rfl (Nat.le_of_ble_eq_true rfl) ⟨true, tm⟩ (m_readPerson (d := d) Z R I e2) (fun v h2 q => ?_)
                have a := ret h2 v _ q
                obtain ⟨rfl, q⟩ := q
                refine Wp.vc 400 [133] rfl ?_
                exact a
              · rw [if_neg (show ¬ lw l = cw 6 from q5)] at none_ ⊢
                rw [xb_neg (show ¬ isWd (.inl l) (cw 26) from fun w => q5 w.2)]
                refine Wp.vc 400 [96, 128, 133] rfl ?_
                refine ⟨fun _ => ?_, fun w => absurd rfl w⟩
                refine Wp.vc 400 [112, 128, 133] rfl ?_
                refine Wp.callE (j := 0) rfl (Nat.le_of_ble_eq_true rfl) ⟨true, tm⟩ (m_isWord (d := d + 5) Z (k := 27) (by decide) (xwk (by decide) (by decide))) ?_
                by_cases q6 : lw l = cw 27
                · rw [xb_pos (show isWd (.inl l) (cw 27) from ⟨e2, q6⟩), if_pos (show lw l = cw 7 from q6)]
                  refine Wp.vc 400 [112, 128, 133] rfl ?_
                  refine ⟨fun w => absurd w (by decide), fun _ => ?_⟩
                  refine Wp.callR (j := 0) rfl (Nat.le_of_ble_eq_true rfl) ⟨true, tm⟩ (m_readSign (d := d) Z R I e2) (fun v h2 q => ?_)
                  have a := ret h2 v _ q
                  obtain ⟨rfl, q⟩ := q
                  refine Wp.vc 400 [133] rfl ?_
                  exact a
                · rw [if_neg (show ¬ lw l = cw 7 from q6)] at none_ ⊢
                  rw [xb_neg (show ¬ isWd (.inl l) (cw 27) from fun w => q6 w.2)]
                  refine Wp.vc 400 [112, 128, 133] rfl ?_
                  refine ⟨fun _ => ?_, fun w => absurd rfl w⟩
                  refine Wp.vc 400 [128, 128, 133] rfl ?_
                  refine Wp.callE (j := 0) rfl (Nat.le_of_ble_eq_true rfl) ⟨true, tm⟩ (m_isWord (d := d + 5) Z (k := 28) (by decide) (xwk (by decide) (by decide))) ?_
                  by_cases q7 : lw l = cw 28
                  · rw [xb_pos (show isWd (.inl l) (cw 28) from ⟨e2, q7⟩), if_pos (show lw l = cw 8 from q7)]
                    refine Wp.vc 400 [128, 128, 133] rfl ?_
                    refine ⟨fun w => absurd w (by decide), fun _ => ?_⟩
                    refine Wp.callR (j := 0) rfl (Nat.le_of_ble_eq_true rfl) ⟨true, tm⟩ (m_readNoise (d := d) Z R I e2) (fun v h2 q => ?_)
                    have a := ret h2 v _ q
                    obtain ⟨rfl, q⟩ := q
                    refine Wp.vc 400 [133] rfl ?_
                    exact a
                  · rw [if_neg (show ¬ lw l = cw 8 from q7)] at none_ ⊢
                    rw [xb_neg (show ¬ isWd (.inl l) (cw 28) from fun w => q7 w.2)]
                    refine Wp.vc 400 [128, 128, 133] rfl ?_
                    exact ⟨fun _ => none_ rfl, fun w => absurd rfl w⟩
  · have eL : lLine (kt K) (kn K) P l = .inr (1, la l) := if_pos e2
    have a := none_ eL
    refine WpM.of rfl (Wp.vc 400 [16, 128, 133] rfl ?_)
    refine Wp.callE (j := 0) rfl (Nat.le_of_ble_eq_true rfl) ⟨true, tm⟩ (m_isWord (d := d + 5) Z (k := 21) (by decide) (xwk (by decide) (by decide))) ?_
    rw [xb_neg (show ¬ isWd (.inl l) (cw 21) from fun w => e2 w.1)]
    refine Wp.vc 400 [16, 128, 133] rfl ?_
    refine ⟨fun _ => ?_, fun w => absurd rfl w⟩
    refine Wp.vc 400 [32, 128, 133] rfl ?_
    refine Wp.callE (j := 0) rfl (Nat.le_of_ble_eq_true rfl) ⟨true, tm⟩ (m_isWord (d := d + 5) Z (k := 22) (by decide) (xwk (by decide) (by decide))) ?_
    rw [xb_neg (show ¬ isWd (.inl l) (cw 22) from fun w => e2 w.1)]
    refine Wp.vc 400 [32, 128, 133] rfl ?_
    refine ⟨fun _ => ?_, fun w => absurd rfl w⟩
    refine Wp.vc 400 [48, 128, 133] rfl ?_
    refine Wp.callE (j := 0) rfl (Nat.le_of_ble_eq_true rfl) ⟨true, tm⟩ (m_isWord (d := d + 5) Z (k := 23) (by decide) (xwk (by decide) (by decide))) ?_
    rw [xb_neg (show ¬ isWd (.inl l) (cw 23) from fun w => e2 w.1)]
    refine Wp.vc 400 [48, 128, 133] rfl ?_
    refine ⟨fun _ => ?_, fun w => absurd rfl w⟩
    refine Wp.vc 400 [64, 128, 133] rfl ?_
    refine Wp.callE (j := 0) rfl (Nat.le_of_ble_eq_true rfl) ⟨true, tm⟩ (m_isWord (d := d + 5) Z (k := 24) (by decide) (xwk (by decide) (by decide))) ?_
    rw [xb_neg (show ¬ isWd (.inl l) (cw 24) from fun w => e2 w.1)]
    refine Wp.vc 400 [64, 128, 133] rfl ?_
    refine ⟨fun _ => ?_, fun w => absurd rfl w⟩
    refine Wp.vc 400 [80, 128, 133] rfl ?_
    refine Wp.callE (j := 0) rfl (Nat.le_of_ble_eq_true rfl) ⟨true, tm⟩ (m_isWord (d := d + 5) Z (k := 25) (by decide) (xwk (by decide) (by decide))) ?_
    rw [xb_neg (show ¬ isWd (.inl l) (cw 25) from fun w => e2 w.1)]
    refine Wp.vc 400 [80, 128, 133] rfl ?_
    refine ⟨fun _ => ?_, fun w => absurd rfl w⟩
    refine Wp.vc 400 [96, 128, 133] rfl ?_
    refine Wp.callE (j := 0) rfl (Nat.le_of_ble_eq_true rfl) ⟨true, tm⟩ (m_isWord (d := d + 5) Z (k := 26) (by decide) (xwk (by decide) (by decide))) ?_
    rw [xb_neg (show ¬ isWd (.inl l) (cw 26) from fun w => e2 w.1)]
    refine Wp.vc 400 [96, 128, 133] rfl ?_
    refine ⟨fun _ => ?_, fun w => absurd rfl w⟩
    refine Wp.vc 400 [112, 128, 133] rfl ?_
    refine Wp.callE (j := 0) rfl (Nat.le_of_ble_eq_true rfl) ⟨true, tm⟩ (m_isWord (d := d + 5) Z (k := 27) (by decide) (xwk (by decide) (by decide))) ?_
    rw [xb_neg (show ¬ isWd (.inl l) (cw 27) from fun w => e2 w.1)]
    refine Wp.vc 400 [112, 128, 133] rfl ?_
    refine ⟨fun _ => ?_, fun w => absurd rfl w⟩
    refine Wp.vc 400 [128, 128, 133] rfl ?_
    refine Wp.callE (j := 0) rfl (Nat.le_of_ble_eq_true rfl) ⟨true, tm⟩ (m_isWord (d := d + 5) Z (k := 28) (by decide) (xwk (by decide) (by decide))) ?_
    rw [xb_neg (show ¬ isWd (.inl l) (cw 28) from fun w => e2 w.1)]
    refine Wp.vc 400 [128, 128, 133] rfl ?_
    exact ⟨fun _ => a, fun w => absurd rfl w⟩
theorem lLine_len {tp : List Int} {n : Int} {P : PT} {l : LTk} {q : PT × LTk} (h : lLine tp n P l = .inl q) (I : PI P (le_ l)) (L : LOK n l) (e : ((pN P).length : Int) = tnh (pT P) + tpm (pT P)) : ((pN q.1).length : Int) = tnh (pT q.1) + tpm (pT q.1) := by
  have J := (lLine_ok h I L).2.1.1
  have key : ∀ P : PT, NI P → ((pN P).length : Int) = tnh (pT P) + tpm (pT P) → True := fun _ _ _ => trivial
  unfold lLine at h
  split at h
  · cases h
  · split at h
    · unfold lTown at h
      split at h
      · obtain ⟨a, -, h⟩ := rb_inv h
        obtain ⟨b, -, h⟩ := rb_inv h
        cases h
        exact e
      · cases h
    · split at h
      · unfold lHouse at h
        obtain ⟨x0, -, h⟩ := rb_inv h
        obtain ⟨x1, -, h⟩ := rb_inv h
        obtain ⟨x2, -, h⟩ := rb_inv h
        obtain ⟨x3, -, h⟩ := rb_inv h
        obtain ⟨x4, -, h⟩ := rb_inv h
        obtain ⟨x5, -, h⟩ := rb_inv h
        obtain ⟨x6, -, h⟩ := rb_inv h
        cases h
        show (((pN P ++ [_]).length : Nat) : Int) = (tnh (pT P) + 1) + tpm (pT P)
        rw [List.length_append]
        show (((pN P).length + 1 : Nat) : Int) = _
        omega
      · split at h
        · unfold lWrong at h
          obtain ⟨x0, -, h⟩ := rb_inv h
          obtain ⟨x1, -, h⟩ := rb_inv h
          split at h
          · obtain ⟨x2, -, h⟩ := rb_inv h
            obtain ⟨x3, -, h⟩ := rb_inv h
            split at h
            · cases h
            · cases h
              exact e
          · cases h
        · split at h
          · unfold lOpen at h
            obtain ⟨x0, -, h⟩ := rb_inv h
            obtain ⟨x1, -, h⟩ := rb_inv h
            split at h
            · obtain ⟨x2, -, h⟩ := rb_inv h
              obtain ⟨x3, -, h⟩ := rb_inv h
              cases h
              exact e
            · cases h
          · split at h
            · unfold lStreet at h
              obtain ⟨x0, -, h⟩ := rb_inv h
              obtain ⟨x1, -, h⟩ := rb_inv h
              obtain ⟨x2, -, h⟩ := rb_inv h
              split at h
              · cases h
              · obtain ⟨x3, -, h⟩ := rb_inv h
                cases h
                exact e
            · split at h
              · unfold lPerson at h
                obtain ⟨x0, -, h⟩ := rb_inv h
                obtain ⟨x1, -, h⟩ := rb_inv h
                obtain ⟨x2, -, h⟩ := rb_inv h
                obtain ⟨x3, -, h⟩ := rb_inv h
                obtain ⟨x4, -, h⟩ := rb_inv h
                obtain ⟨x5, -, h⟩ := rb_inv h
                cases h
                show (((pN P ++ [_]).length : Nat) : Int) = tnh (pT P) + (tpm (pT P) + 1)
                rw [List.length_append]
                show (((pN P).length + 1 : Nat) : Int) = _
                omega
              · split at h
                · unfold lSign at h
                  obtain ⟨x0, -, h⟩ := rb_inv h
                  obtain ⟨x1, -, h⟩ := rb_inv h
                  obtain ⟨x2, -, h⟩ := rb_inv h
                  cases h
                  exact e
                · split at h
                  · unfold lNoise at h
                    obtain ⟨x0, -, h⟩ := rb_inv h
                    obtain ⟨x1, -, h⟩ := rb_inv h
                    obtain ⟨x2, -, h⟩ := rb_inv h
                    cases h
                    exact e
                  · cases h
theorem m_eats {d : Nat} {K : XX} {h : XH} {o : Re LTk} (Z : MZ K h o) : WpM (d + 2) 172 [.inr (.inr (ks K))] h (XRet fun v h' => (∃ l, (o = .inl l ∧ lk l = 59) ∧ v = some (.inl 1) ∧ MZ K h' (.inl (ga (kt K) (kn K) l)) ∧ FrM (ks K) h h') ∨ ((∀ l, o = .inl l → lk l ≠ 59) ∧ v = some (.inl 0) ∧ h' = h)) := by
  have tm := Z.tm
  by_cases q : ∃ l, o = .inl l ∧ lk l = 59
  · obtain ⟨l, rfl, e⟩ := q
    have f75 : xfl h (ks K) 75 = 4 := by rw [Z.2.1.1, e]; rfl
    refine WpM.of rfl (Wp.vc 400 [14] rfl ?_)
    rw [f75]
    refine ⟨isF tm rfl, fun w => absurd rfl w, fun _ => ?_⟩
    refine Wp.vc 400 [22] rfl ?_
    refine ⟨fun w => absurd w (by decide), fun _ => ?_⟩
    refine Wp.callR (j := 0) rfl (Nat.le_of_ble_eq_true rfl) ⟨true, tm⟩ (m_goesOn (d := d) Z (fun l' e' => by cases e'; rw [e]; decide)) (fun v h2 q => ?_)
    obtain ⟨rfl, Z2, p2⟩ := q
    refine Wp.vc 400 [] rfl ?_
    exact ⟨⟨by decide, by decide⟩, _, rfl, Or.inl ⟨l, ⟨rfl, e⟩, rfl, Z2, p2⟩⟩
  · have no : ∀ l, o = .inl l → lk l ≠ 59 := fun l e w => q ⟨l, e, w⟩
    have ne : ¬ xfl h (ks K) 75 = 4 := by
      cases o with
      | inr f => rw [Z.2.1.1]; decide
      | inl l =>
        rw [Z.2.1.1]
        intro w
        unfold mk_ at w
        have no := no l rfl
        rcases (Z.2.2 l rfl).2.1 with k | k | k | k | k <;> rw [k] at w no <;> first | exact absurd w (by decide) | exact absurd rfl no
    refine WpM.of rfl (Wp.vc 400 [14] rfl ?_)
    refine ⟨isF tm rfl, fun _ => ?_, fun w => absurd ne w⟩
    refine Wp.vc 400 [22] rfl ?_
    refine ⟨fun _ => ?_, fun w => absurd rfl w⟩
    refine Wp.vc 400 [] rfl ?_
    exact ⟨⟨by decide, by decide⟩, _, rfl, Or.inr ⟨no, rfl, rfl⟩⟩
def MRdEnd (K : XX) (h : XH) (r : Re XTw) : XO → XH → Prop := XRet fun v h' => v = none ∧ FrMT K h h' ∧ (∀ f, r = .inr f → MZ K h' (.inr f)) ∧ ∀ T, r = .inl T → ∃ (P : PT) (l : LTk), pT P = T ∧ MZ K h' (.inl l) ∧ MRt K h' P (le_ l) ∧ PI P (le_ l) ∧ 2 ≤ tnh T
theorem m_over31 {d : Nat} {K : XX} {h h2 : XH} {f : Int × Int} {P : PT} {e : Int} (Z : MZ K h2 (.inr f)) (R : MRt K h2 P e) (p : FrMT K h h2) : Wp (d + 12) 147 31 [some (.inr (.inr (ks K))), some (.inl 0)] [] h2 (MRdEnd K h (.inr f)) := by
  have tm2 := Z.tm
  have tt := R.1.2.1
  refine Wp.vc 400 [48] rfl ?_
  refine ⟨isF tm2 rfl, isF tt rfl, fun _ => ?_, fun _ => ?_⟩
  · refine Wp.vc 400 [] rfl ?_
    exact ⟨trivial, _, rfl, rfl, p, fun f' w => (by cases w; exact Z), fun T w => (by cases w)⟩
  · refine Wp.callR (j := 0) rfl (Nat.le_of_ble_eq_true rfl) ⟨true, tm2⟩ (m_flaw (d := d + 11) Z) (fun v h4 q => ?_)
    obtain ⟨rfl, Z4, p4⟩ := q
    refine Wp.vc 400 [] rfl ?_
    exact ⟨trivial, _, rfl, rfl, p.trans p4.mt, fun f' w => (by cases w; exact Z4), fun T w => (by cases w)⟩
theorem m_over18 {d : Nat} {K : XX} {h h2 : XH} {f : Int × Int} {P : PT} {e : Int} (Z : MZ K h2 (.inr f)) (R : MRt K h2 P e) (p : FrMT K h h2) : Wp (d + 12) 147 18 [some (.inr (.inr (ks K))), some (.inl 0)] [] h2 (MRdEnd K h (.inr f)) := by
  have tm2 := Z.tm
  have f75 := Z.2.1.1
  refine Wp.vc 400 [31] rfl ?_
  rw [f75]
  refine ⟨isF tm2 rfl, fun w => absurd w (by decide), fun _ => ?_⟩
  refine Wp.callR (j := 0) rfl (Nat.le_of_ble_eq_true rfl) ⟨true, tm2⟩ (m_flaw (d := d + 11) Z) (fun v h4 q => ?_)
  obtain ⟨rfl, Z4, p4⟩ := q
  exact m_over31 Z4 (R.keep p4 Z) (p.trans p4.mt)
theorem m_live18 {d : Nat} {K : XX} {h h2 : XH} {q : PT × LTk} (Z : MZ K h2 (.inl q.2)) (R : MRt K h2 q.1 (le_ q.2)) (I : PI q.1 (le_ q.2)) (p : FrMT K h h2) : Wp (d + 12) 147 18 [some (.inr (.inr (ks K))), some (.inl 0)] [] h2 (MRdEnd K h (rEnd q)) := by
  have tm2 := Z.tm
  have f75 := Z.2.1.1
  have f135 := R.2.1.2.2.1
  have tt := R.1.2.1
  have k := (Z.2.2 _ rfl).2.1
  unfold rEnd
  by_cases e0 : lk q.2 = 0
  · rw [if_neg (fun w => w e0)]
    have f75 : xfl h2 (ks K) 75 = 1 := by rw [f75, e0]; rfl
    refine Wp.vc 400 [31] rfl ?_
    rw [f75]
    refine ⟨isF tm2 rfl, fun _ => ?_, fun w => absurd rfl w⟩
    refine Wp.vc 400 [48] rfl ?_
    rw [f135]
    refine ⟨isF tm2 rfl, isF tt rfl, fun w => ?_, fun w => ?_⟩
    · have w : 2 ≤ tnh (pT q.1) := w
      rw [if_neg (by omega)]
      refine Wp.vc 400 [] rfl ?_
      exact ⟨trivial, _, rfl, rfl, p, fun f' w => (by cases w), fun T w2 => (by cases w2; exact ⟨q.1, q.2, rfl, Z, R, I, w⟩)⟩
    · have w : ¬ 2 ≤ tnh (pT q.1) := w
      rw [if_pos (by omega)]
      refine Wp.callR (j := 0) rfl (Nat.le_of_ble_eq_true rfl) ⟨true, tm2⟩ (m_flaw (d := d + 11) Z) (fun v h4 q => ?_)
      obtain ⟨rfl, Z4, p4⟩ := q
      refine Wp.vc 400 [] rfl ?_
      exact ⟨trivial, _, rfl, rfl, p.trans p4.mt, fun f' w => (by cases w; exact Z4), fun T w => (by cases w)⟩
  · rw [if_pos e0]
    have ne : ¬ xfl h2 (ks K) 75 = 1 := by
      rw [f75]
      intro w
      unfold mk_ at w
      rcases k with k | k | k | k | k <;> rw [k] at w e0 <;> first | exact absurd w (by decide) | exact absurd rfl e0
    refine Wp.vc 400 [31] rfl ?_
    refine ⟨isF tm2 rfl, fun w => absurd w ne, fun _ => ?_⟩
    refine Wp.callR (j := 0) rfl (Nat.le_of_ble_eq_true rfl) ⟨true, tm2⟩ (m_flaw (d := d + 11) Z) (fun v h4 q => ?_)
    obtain ⟨rfl, Z4, p4⟩ := q
    exact m_over31 Z4 (R.keep p4 Z) (p.trans p4.mt)
theorem m_lines {d : Nat} {K : XX} {h : XH} : ∀ (m : Nat) (h1 : XH) (l : LTk) (P : PT), MZ K h1 (.inl l) → MRt K h1 P (le_ l) → MI P (le_ l) → FrMT K h h1 → kn K - le_ l < m → Wp (d + 12) 147 2 [some (.inr (.inr (ks K))), some (.inl 1)] [] h1 (MRdEnd K h (rb (lLine (kt K) (kn K) P l) (fun q => rb (if lk q.2 = 59 then lAll (kt K) (kn K) m q.1 (ga (kt K) (kn K) q.2) else .inl q) rEnd))) := by
  intro m
  induction m with
  | zero =>
    intro h1 l P Z R I p hm
    have := (Z.2.2 l rfl).1
    omega
  | succ m ih =>
    intro h1 l P Z R I p hm
    have tm := Z.tm
    have L := Z.2.2 l rfl
    have ln := L.1
    refine Wp.vc 400 [18] rfl ?_
    refine ⟨fun w => absurd w (by decide), fun _ => ?_⟩
    refine Wp.callR (j := 0) rfl (Nat.le_of_ble_eq_true rfl) ⟨true, tm⟩ (m_readLine (d := d) Z R I) (fun v h2 q => ?_)
    obtain ⟨rfl, Z2, p2, Rl, Ro⟩ := q
    have pp := p.trans p2
    have tm2 := Z2.tm
    refine Wp.vc 400 [2] rfl ?_
    cases e : lLine (kt K) (kn K) P l with
    | inr f =>
      rw [e] at Z2
      have Z2 : MZ K h2 (.inr f) := Z2
      refine Wp.callR (j := 0) rfl (Nat.le_of_ble_eq_true rfl) ⟨true, tm2⟩ (m_eats (d := d + 9) Z2) (fun v h3 q => ?_)
      rcases q with ⟨l', ⟨w, -⟩, -⟩ | ⟨-, rfl, rfl⟩
      · cases w
      have a := m_over18 (d := d) Z2 (Ro f e) pp
      refine Wp.vc 400 [2] rfl ?_
      refine Wp.vc 400 [18] rfl ?_
      exact ⟨fun _ => a, fun w => absurd rfl w⟩
    | inl q =>
      rw [e] at Z2
      have Z2 : MZ K h2 (.inl q.2) := Z2
      obtain ⟨-, I2, L2, lt⟩ := lLine_ok e I.1 L
      have len := lLine_len e I.1 L I.2
      refine Wp.callR (j := 0) rfl (Nat.le_of_ble_eq_true rfl) ⟨true, tm2⟩ (m_eats (d := d + 9) Z2) (fun v h3 z => ?_)
      show Wp _ _ _ _ _ _ (MRdEnd K h (rb (if lk q.2 = 59 then lAll (kt K) (kn K) (m + 1) q.1 (ga (kt K) (kn K) q.2) else .inl q) rEnd))
      rcases z with ⟨l', ⟨w, w9⟩, rfl, Z3, p3⟩ | ⟨no, rfl, rfl⟩
      · cases w
        rw [if_pos w9]
        have ad := ga_adv (tp := kt K) L2
        have R3 := (Rl q e).keep p3 Z2
        have R3 : MRt K h3 q.1 (le_ (ga (kt K) (kn K) q.2)) := ⟨R3.1, by
          obtain ⟨a, ⟨b, c, dd⟩, f⟩ := R3.2
          exact ⟨a, ⟨b, c, Int.le_trans dd ad.2⟩, f⟩⟩
        have nx := ih h3 (ga (kt K) (kn K) q.2) q.1 Z3 R3 ⟨I2.mono ad.2, len⟩ (pp.trans p3.mt) (by have := ad.2; omega)
        have go : rb (lAll (kt K) (kn K) (m + 1) q.1 (ga (kt K) (kn K) q.2)) rEnd = rb (lLine (kt K) (kn K) q.1 (ga (kt K) (kn K) q.2)) (fun q => rb (if lk q.2 = 59 then lAll (kt K) (kn K) m q.1 (ga (kt K) (kn K) q.2) else .inl q) rEnd) := rb_rb _ _ _
        rw [go]
        refine Wp.vc 400 [2] rfl ?_
        exact nx
      · rw [if_neg (no q.2 rfl)]
        have a := m_live18 (d := d) Z2 (Rl q e) I2 pp
        refine Wp.vc 400 [2] rfl ?_
        refine Wp.vc 400 [18] rfl ?_
        exact ⟨fun _ => a, fun w => absurd rfl w⟩
