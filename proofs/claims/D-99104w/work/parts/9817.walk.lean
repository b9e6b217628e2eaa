/-! WALKS, 56: stands: masks; what is answered -/
set_option maxRecDepth 100000
set_option maxHeartbeats 4000000
theorem xor_nat {a b : Int} (a0 : 0 ≤ a ∧ a < 128) (b0 : 0 ≤ b ∧ b < 128) : xor_ a b = ((a.toNat ||| b.toNat : Nat) : Int) ∧ a.toNat ||| b.toNat < 128 := by
  have lt : a.toNat ||| b.toNat < 2 ^ 7 := Nat.or_lt_two_pow (by omega) (by omega)
  have e : ∀ c : Int, 0 ≤ c → c < 128 → (BitVec.ofInt 32 c).toNat = c.toNat := fun c c0 c1 => by
    rw [BitVec.toNat_ofInt]
    omega
  refine ⟨?_, lt⟩
  show (Int32.ofInt a ||| Int32.ofInt b).toBitVec.toInt = _
  rw [Int32.toBitVec_or, Int32.toBitVec_ofInt, Int32.toBitVec_ofInt, BitVec.toInt_eq_toNat_of_lt, BitVec.toNat_or, e a a0.1 a0.2, e b b0.1 b0.2]
  rw [BitVec.toNat_or, e a a0.1 a0.2, e b b0.1 b0.2]
  omega
theorem xbit_nat {n : Nat} {k : Int} (k0 : 0 ≤ k) : xbit (n : Int) k ↔ n.testBit k.toNat = true := by
  rw [Nat.testBit_eq_decide_div_mod_eq, decide_eq_true_iff]
  unfold xbit
  have : ((n : Int) / 2 ^ k.toNat % 2) = ((n / 2 ^ k.toNat % 2 : Nat) : Int) := by
    rw [Int.natCast_emod, Int.natCast_ediv, Int.natCast_pow]
    rfl
  rw [this]
  omega
theorem xor_bit {a b : Int} (a0 : 0 ≤ a ∧ a < 128) (b0 : 0 ≤ b ∧ b < 128) : (0 ≤ xor_ a b ∧ xor_ a b < 128) ∧ ∀ k : Int, 0 ≤ k → (xbit (xor_ a b) k ↔ (xbit a k ∨ xbit b k)) := by
  obtain ⟨e, lt⟩ := xor_nat a0 b0
  rw [e]
  refine ⟨⟨by omega, by omega⟩, fun k k0 => ?_⟩
  have ea : xbit a k ↔ a.toNat.testBit k.toNat = true := by
    have := xbit_nat (n := a.toNat) k0
    rwa [Int.toNat_of_nonneg a0.1] at this
  have eb : xbit b k ↔ b.toNat.testBit k.toNat = true := by
    have := xbit_nat (n := b.toNat) k0
    rwa [Int.toNat_of_nonneg b0.1] at this
  rw [xbit_nat k0, ea, eb, Nat.testBit_or, Bool.or_eq_true]
def stp (T : XTw) (M s : Int) : Prop := ∀ j : Int, 0 ≤ j → j < tnh T → ∃ i : Int, (0 ≤ i ∧ i < tnh T) ∧ xbit s i ∧ wreach T i j M
noncomputable def stn1 (T : XTw) (M b s : Int) : Int := @ite _ (xones s < xones b ∧ stp T M s) (Classical.propDecidable _) s b
noncomputable def stnF (T : XTw) (M k : Int) : Int := (nds k).foldl (stn1 T M) (2 ^ (tnh T).toNat - 1)
noncomputable def stnV (T : XTw) (M : Int) : Int := stnF T M (2 ^ (tnh T).toNat)
theorem stnF_succ {T : XTw} {M k : Int} (k0 : 0 ≤ k) : stnF T M (k + 1) = stn1 T M (stnF T M k) k := by
  unfold stnF
  rw [nds_succ k0, List.foldl_append]
  rfl
/-- the houses that one reaches from i in M minutes by streets; whether a set of houses stands; the first with the fewest -/
noncomputable def opStands (S : XSt) (M : Int) : Int × XSt := onT S fun T => if 0 ≤ M ∧ M ≤ 999 then sOk S (stnV T M) else sNo S 2
