/-! WALKS, 58: stands: WrongRoomModel's isStand -/
set_option maxRecDepth 100000
set_option maxHeartbeats 4000000
theorem m_isStand {d : Nat} {h : XH} {B m n u M : Int} {T : XTw} {V : Int → Int} (C : MCtx h B m n T V) (fo : farOK (xar h (m + 15)) T) (u0 : 0 ≤ u ∧ u < 128) (M0 : 0 ≤ M ∧ M ≤ 999) : WpM (d + 1) 231 [.inr (.inr m), .inl u, .inl M] h (XE (some (.inl (xb (stp T M u)))) h) := by
  have hn := C.2.2.2.1.2.2.1
  have tm := C.2.1.1
  obtain ⟨t15, f103⟩ := C.2.1.2.2.2.2.2.2.2.2.2.2.2.2.2.2.2
  have TX := C.2.2.1
  have f135 : xfl h (xfl h m 69) 135 = tnh T := TX.2.2.1.2.2.1
  have tt := TX.1.2.2
  let ex : Int → Int → Prop := fun i j => ∃ i' : Int, (0 ≤ i' ∧ i' < i) ∧ xbit u i' ∧ wreach T i' j M
  have inner : ∀ j : Int, (0 ≤ j ∧ j < tnh T) → (∀ l5, ex (tnh T) j → Wp (d + 1) 231 81 [some (.inr (.inr m)), some (.inl u), some (.inl M), some (.inl j), some (.inl 1), some (.inl l5)] [] h (XE (some (.inl (xb (stp T M u)))) h)) → (¬ ex (tnh T) j → ¬ stp T M u) → ∀ (i : Int) (h2 : XH), i ≤ tnh T → (0 ≤ i ∧ h2 = h) → Wp (d + 1) 231 19 [some (.inr (.inr m)), some (.inl u), some (.inl M), some (.inl j), some (.inl (xb (ex i j))), some (.inl i)] [] h2 (XE (some (.inl (xb (stp T M u)))) h) := by
    intro j j0 yes no
    refine loopUp (G := fun i h2 => Wp (d + 1) 231 19 [some (.inr (.inr m)), some (.inl u), some (.inl M), some (.inl j), some (.inl (xb (ex i j))), some (.inl i)] [] h2 (XE (some (.inl (xb (stp T M u)))) h)) (tnh T) ?_ ?_
    · rintro i h2 ⟨i0, rfl⟩ hi ih
      have nx := ih h2 ⟨by omega, rfl⟩
      have hx := m_bit (d := d) (h := h2) u i ⟨by omega, by omega⟩ ⟨i0, by omega⟩
      have st : ex (i + 1) j ↔ (ex i j ∨ (xbit u i ∧ wreach T i j M)) := by
        constructor
        · rintro ⟨k, k0, w⟩
          by_cases e : k = i
          · exact Or.inr (e ▸ w)
          · exact Or.inl ⟨k, ⟨k0.1, by omega⟩, w⟩
        · rintro (⟨k, k0, w⟩ | w)
          · exact ⟨k, ⟨k0.1, by omega⟩, w⟩
          · exact ⟨i, ⟨i0, by omega⟩, w⟩
      have at66 : ∀ v : Int, v = xb (ex (i + 1) j) → Wp (d + 1) 231 66 [some (.inr (.inr m)), some (.inl u), some (.inl M), some (.inl j), some (.inl (xb (ex i j))), some (.inl i)] [.inl v] h2 (XE (some (.inl (xb (stp T M u)))) h2) := by
        intro v ev
        rw [← ev] at nx
        refine Wp.vc 400 [19] rfl ?_
        exact ⟨by omega, nx⟩
      by_cases c : ex i j
      · have a1 := at66 1 (xb_pos (st.mpr (Or.inl c))).symm
        rw [xb_pos c] at a1 ⊢
        refine Wp.vc 400 [19, 66, 74] rfl ?_
        rw [f135]
        refine ⟨isF tm rfl, isF tt rfl, fun w => absurd w (by omega), fun _ => ⟨fun _ => a1, fun w => absurd (show ¬ (1 : Int) = 0 by decide) w⟩⟩
      · have a0 := at66 0
        have a1 := at66 1
        rw [xb_neg c] at a0 a1 ⊢
        refine Wp.vc 400 [19, 66, 74] rfl ?_
        rw [f135]
        refine ⟨isF tm rfl, isF tt rfl, fun w => absurd w (by omega), fun _ => ⟨fun w => absurd rfl w, fun _ => ?_⟩⟩
        refine Wp.callE (j := 0) rfl (Nat.le_of_ble_eq_true rfl) trivial hx ?_
        by_cases b : xbit u i
        · rw [if_pos b]
          have fo := fo i j M i0 hi j0.1 j0.2 M0.1 M0.2
          refine Wp.vc 400 [19, 66, 74] rfl ?_
          rw [f103]
          refine ⟨fun w => absurd w (by decide), fun _ => ⟨isF tm rfl, by omega, by omega, isA t15 (by omega) (by omega), fun w => a0 (xb_neg (fun q => ?_)).symm, fun w => a1 (xb_pos (st.mpr (Or.inr ⟨b, fo.mp (by omega)⟩))).symm⟩⟩
          rcases st.mp q with q | q
          · exact c q
          · have := fo.mpr q.2
            omega
        · rw [if_neg b]
          refine Wp.vc 400 [19, 66, 74] rfl ?_
          exact ⟨fun _ => a0 (xb_neg (fun q => (st.mp q).elim c (fun w => b w.1))).symm, fun w => absurd rfl w⟩
    · rintro h2 ⟨i0, rfl⟩
      by_cases c : ex (tnh T) j
      · rw [xb_pos c]
        have y := yes (tnh T) c
        refine Wp.vc 400 [81, 31] rfl ?_
        rw [f135]
        exact ⟨isF tm rfl, isF tt rfl, fun _ => ⟨fun _ => y, fun w => absurd (show ¬ (1 : Int) = 0 by decide) w⟩, fun w => absurd (Int.le_refl _) w⟩
      · rw [xb_neg c, xb_neg (no c)]
        refine Wp.vc 400 [81, 31] rfl ?_
        rw [f135]
        exact ⟨isF tm rfl, isF tt rfl, fun _ => ⟨fun w => absurd rfl w, fun _ => ⟨⟨by decide, by decide⟩, rfl, rfl⟩⟩, fun w => absurd (Int.le_refl _) w⟩
  have outer : ∀ (j : Int) (h2 : XH), j ≤ tnh T → (0 ≤ j ∧ h2 = h ∧ ∀ j' : Int, 0 ≤ j' → j' < j → ex (tnh T) j') → ∀ l4 l5, Wp (d + 1) 231 2 [some (.inr (.inr m)), some (.inl u), some (.inl M), some (.inl j), l4, l5] [] h2 (XE (some (.inl (xb (stp T M u)))) h) := by
    refine loopUp (G := fun j h2 => ∀ l4 l5, Wp (d + 1) 231 2 [some (.inr (.inr m)), some (.inl u), some (.inl M), some (.inl j), l4, l5] [] h2 (XE (some (.inl (xb (stp T M u)))) h)) (tnh T) ?_ ?_
    · rintro j h2 ⟨j0, rfl, al⟩ hj ih l4 l5
      have go := inner j ⟨j0, hj⟩ (fun l5 y => by
        have nx := ih h2 ⟨by omega, rfl, fun j' h0 h1 => by
          by_cases e : j' = j
          · exact e ▸ y
          · exact al j' h0 (by omega)⟩ (some (.inl 1)) (some (.inl l5))
        refine Wp.vc 400 [2] rfl ?_
        exact ⟨by omega, nx⟩) (fun no w => no (w j j0 hj)) 0 h2 (by omega) ⟨Int.le_refl _, rfl⟩
      rw [xb_neg (fun ⟨i', i1, _⟩ => by omega)] at go
      refine Wp.vc 400 [19, 87] rfl ?_
      rw [f135]
      exact ⟨isF tm rfl, isF tt rfl, fun w => absurd w (by omega), fun _ => go⟩
    · rintro h2 ⟨j0, rfl, al⟩ l4 l5
      refine Wp.vc 400 [13] rfl ?_
      rw [f135]
      refine ⟨isF tm rfl, isF tt rfl, fun _ => ⟨⟨by decide, by decide⟩, ?_⟩, fun w => absurd (Int.le_refl _) w⟩
      rw [xb_pos (show stp T M u from al)]
      exact ⟨rfl, rfl⟩
  have k0 := outer 0 h (by omega) ⟨Int.le_refl _, rfl, fun j' h0 h1 => by omega⟩ none none
  refine WpM.of rfl (Wp.vc 400 [2] rfl ?_)
  exact k0
