/-! WALKS, 60: stands: WrongRoomModel -/
set_option maxRecDepth 100000
set_option maxHeartbeats 4000000
theorem stm1_0 {T : XTw} {M : Int} (hn : 2 ≤ tnh T) : stmF T M 1 = -1 := by
  show stm1 T M (-1) 0 = -1
  unfold stm1
  rw [if_neg (fun w => by
    obtain ⟨i, i0, b, -⟩ := w.2 0 (Int.le_refl _) (by omega)
    exact xbit_0 b)]
theorem stmF_rg {T : XTw} {M : Int} : ∀ k : Nat, stmF T M k = -1 ∨ (0 ≤ stmF T M k ∧ stmF T M k < k)
  | 0 => Or.inl rfl
  | k + 1 => by
    rw [show ((k + 1 : Nat) : Int) = (k : Int) + 1 by omega, stmF_succ (by omega)]
    have := stmF_rg (T := T) (M := M) k
    unfold stm1
    split <;> omega
theorem MU.far {B m n : Int} {h0 h : XH} {S : XSt} {T : XTw} (U : MU B m n h0 h S) (e : sT S = some T) : farOK (xar h (m + 15)) T := by
  have RT := U.1.2.2.2.2.2
  unfold RmT at RT
  rw [e] at RT
  exact RT.2.2.2.2.2
theorem m_opStands {d : Nat} {h : XH} {B m n M : Int} {S : XSt} (R : Rm h B m S) (O : SOK n S) : WpM (d + 2) 230 [.inr (.inr m), .inl M] h (MAn B m h (.inl (opStands S M).1) (opStands S M).2) := by
  refine WpM.of rfl (MU.start R O rfl (fun g U => ?_))
  have tm := U.tm
  cases e : sT S with
  | none =>
    rw [show opStands S M = _ from onT_no e]
    refine Wp.vc 400 [] rfl ?_
    rw [U.noT e]
    refine ⟨isF tm rfl, fun w => absurd rfl w, fun _ => ?_⟩
    exact U.ref (k := 1) rfl (fun _ => rfl) rfl
  | some T =>
    rw [show opStands S M = _ from onT_yes e]
    obtain ⟨ne, TX, -⟩ := U.hasT e
    have hn := (U.ok e).1.2.2.1
    have C := U.ctx e
    have fo := U.far e
    have tt := TX.1.2.2
    have f135 : xfl g (xfl g m 69) 135 = tnh T := TX.2.2.1.2.2.1
    clear TX
    have p7 : (2 : Int) ^ (tnh T).toNat ≤ 128 := two_pow7 ⟨by omega, hn.2⟩
    have p1 : (1 : Int) < 2 ^ (tnh T).toNat := by
      have p : (2 : Nat) ^ 1 ≤ 2 ^ (tnh T).toNat := Nat.pow_le_pow_right (by decide) (by omega)
      have e3 : (2 : Int) ^ (tnh T).toNat = ((2 ^ (tnh T).toNat : Nat) : Int) := by rw [Int.natCast_pow]; rfl
      omega
    refine Wp.vc 400 [] rfl ?_
    refine ⟨isF tm rfl, fun _ => ?_, fun w => absurd ne w⟩
    refine Wp.callE (j := 0) rfl (Nat.le_of_ble_eq_true rfl) trivial (m_in M 0 999) ?_
    by_cases M0 : 0 ≤ M ∧ M ≤ 999
    · rw [if_pos M0, if_pos M0, ← stm_eq hn M0.1]
      have key : ∀ (k : Int) (h2 : XH), k ≤ 2 ^ (tnh T).toNat → (1 ≤ k ∧ h2 = g) → Wp (d + 2) 230 39 [some (.inr (.inr m)), some (.inl M), some (.inl (stmF T M k)), some (.inl k)] [] h2 (MAn B m h (.inl (sOk S (stmF T M (2 ^ (tnh T).toNat))).1) (sOk S (stmF T M (2 ^ (tnh T).toNat))).2) := by
        refine loopUp (G := fun k h2 => Wp (d + 2) 230 39 [some (.inr (.inr m)), some (.inl M), some (.inl (stmF T M k)), some (.inl k)] [] h2 (MAn B m h (.inl (sOk S (stmF T M (2 ^ (tnh T).toNat))).1) (sOk S (stmF T M (2 ^ (tnh T).toNat))).2)) (2 ^ (tnh T).toNat) ?_ ?_
        · rintro k h2 ⟨k0, rfl⟩ hk ih
          have ih := ih h2 ⟨by omega, rfl⟩
          have rg := stmF_rg (T := T) (M := M) k.toNat
          rw [Int.toNat_of_nonneg (by omega)] at rg
          rw [stmF_succ (by omega)] at ih
          generalize stmF T M k = a at ih rg ⊢
          have at79 : ∀ v : Int, v = stm1 T M a k → Wp (d + 2) 230 79 [some (.inr (.inr m)), some (.inl M), some (.inl v), some (.inl k)] [] h2 (MAn B m h (.inl (sOk S (stmF T M (2 ^ (tnh T).toNat))).1) (sOk S (stmF T M (2 ^ (tnh T).toNat))).2) := by
            intro v ev
            subst ev
            refine Wp.vc 400 [39] rfl ?_
            exact ⟨⟨by omega, by omega⟩, ih⟩
          have at68 : (a = -1 ∨ xones k < xones a) → Wp (d + 2) 230 68 [some (.inr (.inr m)), some (.inl M), some (.inl a), some (.inl k)] [] h2 (MAn B m h (.inl (sOk S (stmF T M (2 ^ (tnh T).toNat))).1) (sOk S (stmF T M (2 ^ (tnh T).toNat))).2) := by
            intro c
            refine Wp.vc 400 [39, 79] rfl ?_
            refine Wp.callE (j := 0) rfl (Nat.le_of_ble_eq_true rfl) ⟨true, tm⟩ (m_isStand C fo ⟨by omega, by omega⟩ M0) ?_
            by_cases s : stp T M k
            · rw [xb_pos s]
              refine Wp.vc 400 [39, 79] rfl ?_
              exact ⟨fun w => absurd w (by decide), fun _ => at79 k (if_pos ⟨c, s⟩).symm⟩
            · rw [xb_neg s]
              refine Wp.vc 400 [39, 79] rfl ?_
              exact ⟨fun _ => at79 a (if_neg (fun w => s w.2)).symm, fun w => absurd rfl w⟩
          refine Wp.vc 400 [39, 68, 79, 85] rfl ?_
          rw [f135, Int.one_mul]
          refine ⟨isF tm rfl, isF tt rfl, ⟨by omega, by omega, by omega, by omega⟩, fun w => absurd w (by omega), fun _ => ⟨fun w => at68 (Or.inl w), fun w => ?_⟩⟩
          refine Wp.callE (j := 0) rfl (Nat.le_of_ble_eq_true rfl) trivial (m_bits k ⟨by omega, by omega⟩) ?_
          refine Wp.vc 400 [39, 68, 79, 85] rfl ?_
          refine Wp.callE (j := 0) rfl (Nat.le_of_ble_eq_true rfl) trivial (m_bits a ⟨by omega, by omega⟩) ?_
          refine Wp.vc 400 [39, 68, 79, 85] rfl ?_
          exact ⟨fun c => at79 a (if_neg (fun q => by rcases q.1 with q | q <;> omega)).symm, fun c => at68 (Or.inr (by omega))⟩
        · rintro h2 ⟨k0, rfl⟩
          refine Wp.vc 400 [52] rfl ?_
          rw [f135, Int.one_mul]
          refine ⟨isF tm rfl, isF tt rfl, ⟨by omega, by omega, by omega, by omega⟩, fun _ => ?_, fun w => absurd (Int.le_refl _) w⟩
          exact U.good rfl (fun _ => rfl) rfl
      have k0 := key 1 g (by omega) ⟨by decide, rfl⟩
      rw [stm1_0 hn.1] at k0
      refine Wp.vc 400 [39] rfl ?_
      exact ⟨fun _ => k0, fun w => absurd (show ¬ (1 : Int) = 0 by decide) w⟩
    · rw [if_neg M0, if_neg M0]
      refine Wp.vc 400 [] rfl ?_
      first | refine ⟨fun _ => ?_, fun c => absurd (by decide) c⟩ | refine ⟨fun c => absurd c (by decide), fun _ => ?_⟩
      exact U.ref (k := 2) rfl (fun _ => rfl) rfl
