/-! WALKS, 59: stands: the two searches agree -/
set_option maxRecDepth 100000
set_option maxHeartbeats 4000000
noncomputable def stm1 (T : XTw) (M a s : Int) : Int := @ite _ ((a = -1 ∨ xones s < xones a) ∧ stp T M s) (Classical.propDecidable _) s a
noncomputable def stmF (T : XTw) (M k : Int) : Int := (nds k).foldl (stm1 T M) (-1)
theorem stmF_succ {T : XTw} {M k : Int} (k0 : 0 ≤ k) : stmF T M (k + 1) = stm1 T M (stmF T M k) k := by
  unfold stmF
  rw [nds_succ k0, List.foldl_append]
  rfl
theorem ones_dec : ∀ (n : Fin 8) (s : Fin 128), (s.val : Int) < 2 ^ n.val - 1 → xones (s.val : Int) < xones (2 ^ n.val - 1) := by decide +kernel
theorem ones_lt {n s : Int} (hn : 0 ≤ n ∧ n ≤ 7) (h : 0 ≤ s ∧ s < 2 ^ n.toNat - 1) : xones s < xones (2 ^ n.toNat - 1) := by
  have p : (2 : Nat) ^ n.toNat ≤ 2 ^ 7 := Nat.pow_le_pow_right (by decide) (by omega)
  have e3 : (2 : Int) ^ n.toNat = ((2 ^ n.toNat : Nat) : Int) := by rw [Int.natCast_pow]; rfl
  have e2 : (2 : Nat) ^ 7 = 128 := rfl
  have := ones_dec ⟨n.toNat, by omega⟩ ⟨s.toNat, by omega⟩
  dsimp only at this
  rw [Int.toNat_of_nonneg h.1] at this
  exact this h.2
theorem stm_eq {T : XTw} {M : Int} (hn : 2 ≤ tnh T ∧ tnh T ≤ 7) (M0 : 0 ≤ M) : stmF T M (2 ^ (tnh T).toNat) = stnV T M := by
  have e3 : (2 : Int) ^ (tnh T).toNat = ((2 ^ (tnh T).toNat : Nat) : Int) := by rw [Int.natCast_pow]; rfl
  have p0 : 0 < 2 ^ (tnh T).toNat := Nat.two_pow_pos _
  have full : stp T M (2 ^ (tnh T).toNat - 1) := fun j j0 j1 => ⟨j, ⟨j0, j1⟩, (full_bits (n := (tnh T).toNat) ⟨by omega, by omega⟩).mp rfl j j0 (by omega), [], 0, fun x hx => absurd hx List.not_mem_nil, rfl, rfl, M0⟩
  have key : ∀ k : Nat, k ≤ 2 ^ (tnh T).toNat → (stmF T M k = -1 ∧ stnF T M k = 2 ^ (tnh T).toNat - 1 ∧ ∀ s : Int, 0 ≤ s → s < k → ¬ stp T M s) ∨ (stmF T M k ≠ -1 ∧ stmF T M k = stnF T M k) := by
    intro k
    induction k with
    | zero => exact fun _ => Or.inl ⟨rfl, rfl, fun s h0 h1 => by omega⟩
    | succ k ih =>
      intro hk
      rw [show ((k + 1 : Nat) : Int) = (k : Int) + 1 by omega, stmF_succ (by omega), stnF_succ (by omega)]
      rcases ih (by omega) with ⟨h1, h2, h3⟩ | ⟨h1, h2⟩
      · rw [h1, h2]
        unfold stm1 stn1
        by_cases c : stp T M k
        · rw [if_pos ⟨Or.inl rfl, c⟩]
          refine Or.inr ⟨by omega, ?_⟩
          by_cases f : (k : Int) < 2 ^ (tnh T).toNat - 1
          · rw [if_pos ⟨ones_lt ⟨by omega, hn.2⟩ ⟨by omega, f⟩, c⟩]
          · have e : (k : Int) = 2 ^ (tnh T).toNat - 1 := by omega
            rw [if_neg (fun w => by rw [e] at w; exact absurd w.1 (by omega))]
            exact e
        · rw [if_neg (fun w => c w.2), if_neg (fun w => c w.2)]
          refine Or.inl ⟨rfl, rfl, fun s s0 s1 => ?_⟩
          by_cases e : s = k
          · exact e ▸ c
          · exact h3 s s0 (by omega)
      · rw [← h2]
        unfold stm1 stn1
        by_cases c : xones (k : Int) < xones (stmF T M k) ∧ stp T M k
        · rw [if_pos ⟨Or.inr c.1, c.2⟩, if_pos c]
          exact Or.inr ⟨by omega, rfl⟩
        · rw [if_neg (fun w => w.1.elim h1 (fun q => c ⟨q, w.2⟩)), if_neg c]
          exact Or.inr ⟨h1, rfl⟩
  unfold stnV
  rw [e3]
  rcases key _ (Nat.le_refl _) with ⟨-, -, h3⟩ | ⟨-, h2⟩
  · exact absurd full (h3 _ (by omega) (by omega))
  · exact h2
