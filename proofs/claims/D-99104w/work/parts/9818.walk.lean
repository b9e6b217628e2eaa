/-! WALKS, 57: stands: WrongRoom -/
set_option maxRecDepth 100000
set_option maxHeartbeats 4000000
theorem xor_lt {a b : Int} {n : Nat} (hn : n ≤ 7) (a0 : 0 ≤ a ∧ a < 2 ^ n) (b0 : 0 ≤ b ∧ b < 2 ^ n) : 0 ≤ xor_ a b ∧ xor_ a b < 2 ^ n := by
  have p : (2 : Nat) ^ n ≤ 2 ^ 7 := Nat.pow_le_pow_right (by decide) hn
  have e2 : (2 : Nat) ^ 7 = 128 := rfl
  have e3 : (2 : Int) ^ n = ((2 ^ n : Nat) : Int) := by rw [Int.natCast_pow]; rfl
  obtain ⟨e, -⟩ := xor_nat (a := a) (b := b) ⟨a0.1, by omega⟩ ⟨b0.1, by omega⟩
  have lt : a.toNat ||| b.toNat < 2 ^ n := Nat.or_lt_two_pow (by omega) (by omega)
  rw [e]
  omega
theorem full_bits {a : Int} {n : Nat} (a0 : 0 ≤ a ∧ a < 2 ^ n) : a = 2 ^ n - 1 ↔ ∀ k : Int, 0 ≤ k → k < n → xbit a k := by
  have e3 : (2 : Int) ^ n = ((2 ^ n : Nat) : Int) := by rw [Int.natCast_pow]; rfl
  have ea : a = (a.toNat : Int) := (Int.toNat_of_nonneg a0.1).symm
  have p1 : 0 < 2 ^ n := Nat.two_pow_pos n
  have key : a.toNat = 2 ^ n - 1 ↔ ∀ k : Nat, k < n → a.toNat.testBit k = true := by
    constructor
    · intro e k hk
      rw [e, Nat.testBit_two_pow_sub_one]
      exact decide_eq_true hk
    · intro h
      refine Nat.eq_of_testBit_eq fun k => ?_
      rw [Nat.testBit_two_pow_sub_one]
      by_cases hk : k < n
      · rw [h k hk, decide_eq_true hk]
      · rw [decide_eq_false hk]
        exact Nat.testBit_lt_two_pow (Nat.lt_of_lt_of_le (show a.toNat < 2 ^ n by omega) (Nat.pow_le_pow_right (by decide) (by omega)))
  constructor
  · intro e k k0 k1
    rw [ea, xbit_nat k0]
    exact key.mp (by omega) k.toNat (by omega)
  · intro h
    have := key.mpr fun k hk => by
      have := h (k : Int) (by omega) (by omega)
      rw [ea, xbit_nat (by omega)] at this
      exact this
    omega
/-- reached[i] stands at r -/
def RchX (h : XH) (r : Int) (T : XTw) (M : Int) : Prop := ∀ i : Int, 0 ≤ i → i < tnh T → (0 ≤ xar h r i ∧ xar h r i < 2 ^ (tnh T).toNat) ∧ ∀ j : Int, 0 ≤ j → j < tnh T → (xbit (xar h r i) j ↔ wreach T i j M)
theorem x_doStand {d : Nat} {h : XH} {s t M u : Int} {T : XTw} (hn : 2 ≤ tnh T ∧ tnh T ≤ 7) (ts : xty h s = some (true, 0, none)) (f3 : xfl h s 3 = t) (tt : xty h t = some (true, 10, none)) (f111 : xfl h t 111 = tnh T) (t49 : xty h (s + 49) = some (true, 0, some 7)) (f19 : xfl h s 19 = s + 49) (A : RchX h (s + 49) T M) (u0 : 0 ≤ u ∧ u < 128) : WpM (d + 1) 48 [.inr (.inr s), .inl u] h (XE (some (.inl (xb (stp T M u)))) h) := by
  have key : ∀ (k : Int) (h2 : XH), k ≤ tnh T → (0 ≤ k ∧ h2 = h) → ∀ acc : Int, (0 ≤ acc ∧ acc < 2 ^ (tnh T).toNat) → (∀ j : Int, 0 ≤ j → j < tnh T → (xbit acc j ↔ ∃ i : Int, (0 ≤ i ∧ i < k) ∧ xbit u i ∧ wreach T i j M)) → Wp (d + 1) 48 4 [some (.inr (.inr s)), some (.inl u), some (.inl acc), some (.inl k)] [] h2 (XE (some (.inl (xb (stp T M u)))) h) := by
    refine loopUp (G := fun k h2 => ∀ acc : Int, (0 ≤ acc ∧ acc < 2 ^ (tnh T).toNat) → (∀ j : Int, 0 ≤ j → j < tnh T → (xbit acc j ↔ ∃ i : Int, (0 ≤ i ∧ i < k) ∧ xbit u i ∧ wreach T i j M)) → Wp (d + 1) 48 4 [some (.inr (.inr s)), some (.inl u), some (.inl acc), some (.inl k)] [] h2 (XE (some (.inl (xb (stp T M u)))) h)) (tnh T) ?_ ?_
    · rintro k h2 ⟨k0, rfl⟩ hk ih acc a0 ab
      have hx := x_has (d := d) (h := h2) u k ⟨by omega, by omega⟩ ⟨k0, by omega⟩
      obtain ⟨r0, rb⟩ := A k k0 hk
      have p7 : (2 : Int) ^ (tnh T).toNat ≤ 128 := by
        have p : (2 : Nat) ^ (tnh T).toNat ≤ 2 ^ 7 := Nat.pow_le_pow_right (by decide) (by omega)
        have e3 : (2 : Int) ^ (tnh T).toNat = ((2 ^ (tnh T).toNat : Nat) : Int) := by rw [Int.natCast_pow]; rfl
        have e2 : (2 : Nat) ^ 7 = 128 := rfl
        omega
      have at34 : ∀ v : Int, (0 ≤ v ∧ v < 2 ^ (tnh T).toNat) → (∀ j : Int, 0 ≤ j → j < tnh T → (xbit v j ↔ (xbit u k ∧ wreach T k j M))) → Wp (d + 1) 48 34 [some (.inr (.inr s)), some (.inl u), some (.inl acc), some (.inl k)] [.inl v, .inl acc] h2 (XE (some (.inl (xb (stp T M u)))) h2) := by
        intro v v0 vb
        have nx := ih h2 ⟨by omega, rfl⟩ (xor_ acc v) (xor_lt (by omega) a0 v0) (fun j j0 j1 => by
          rw [(xor_bit ⟨a0.1, by omega⟩ ⟨v0.1, by omega⟩).2 j j0, ab j j0 j1, vb j j0 j1]
          constructor
          · rintro (⟨i, i0, w⟩ | w)
            · exact ⟨i, ⟨i0.1, by omega⟩, w⟩
            · exact ⟨k, ⟨k0, by omega⟩, w⟩
          · rintro ⟨i, i0, w⟩
            by_cases e : i = k
            · exact Or.inr (e ▸ w)
            · exact Or.inl ⟨i, ⟨i0.1, by omega⟩, w⟩)
        refine Wp.vc 400 [4] rfl ?_
        exact ⟨by omega, nx⟩
      refine Wp.vc 400 [4, 34, 42] rfl ?_
      rw [f3, f111]
      refine ⟨isF ts rfl, isF tt rfl, fun w => absurd w (by omega), fun _ => ?_⟩
      refine Wp.callE (j := 0) rfl (Nat.le_of_ble_eq_true rfl) trivial hx ?_
      by_cases c : xbit u k
      · rw [if_pos c]
        refine Wp.vc 400 [4, 34, 42] rfl ?_
        rw [f19]
        refine ⟨fun w => absurd w (by decide), fun _ => ⟨isF ts rfl, isA t49 k0 (by omega), at34 _ r0 (fun j j0 j1 => ?_)⟩⟩
        rw [rb j j0 j1]
        exact ⟨fun w => ⟨c, w⟩, fun w => w.2⟩
      · rw [if_neg c]
        refine Wp.vc 400 [4, 34, 42] rfl ?_
        exact ⟨fun _ => at34 0 ⟨Int.le_refl _, Int.pow_pos (by decide)⟩ (fun j j0 j1 => ⟨fun w => absurd w xbit_0, fun w => absurd w.1 c⟩), fun w => absurd rfl w⟩
    · rintro h2 ⟨k0, rfl⟩ acc a0 ab
      have p7 : (2 : Int) ^ (tnh T).toNat ≤ 128 := by
        have p : (2 : Nat) ^ (tnh T).toNat ≤ 2 ^ 7 := Nat.pow_le_pow_right (by decide) (by omega)
        have e3 : (2 : Int) ^ (tnh T).toNat = ((2 ^ (tnh T).toNat : Nat) : Int) := by rw [Int.natCast_pow]; rfl
        have e2 : (2 : Nat) ^ 7 = 128 := rfl
        omega
      have p0 : (0 : Int) < 2 ^ (tnh T).toNat := Int.pow_pos (by decide)
      have fb := full_bits (n := (tnh T).toNat) a0
      have st : acc = 2 ^ (tnh T).toNat - 1 ↔ stp T M u := by
        rw [fb]
        exact ⟨fun w j j0 j1 => (ab j j0 j1).mp (w j j0 (by omega)), fun w j j0 j1 => (ab j j0 (by omega)).mpr (w j j0 (by omega))⟩
      refine Wp.vc 400 [18] rfl ?_
      rw [f3, f111, Int.one_mul]
      refine ⟨isF ts rfl, isF tt rfl, fun _ => ⟨isF ts rfl, isF tt rfl, ⟨by omega, by omega, by omega, by omega⟩, by omega, fun c => ⟨⟨by decide, by decide⟩, ?_⟩, fun c => ⟨⟨by decide, by decide⟩, ?_⟩⟩, fun w => absurd (Int.le_refl _) w⟩
      · rw [xb_neg (fun w => c (st.mpr w))]
        exact ⟨rfl, rfl⟩
      · rw [xb_pos (st.mp (Decidable.of_not_not c))]
        exact ⟨rfl, rfl⟩
  have k0 := key 0 h (by omega) ⟨Int.le_refl _, rfl⟩ 0 ⟨Int.le_refl _, Int.pow_pos (by decide)⟩ (fun j j0 j1 => ⟨fun w => absurd w xbit_0, fun ⟨i, i0, _⟩ => by omega⟩)
  refine WpM.of rfl (Wp.vc 400 [4] rfl ?_)
  exact k0
