/-! WALKS, 2: static leaves -/
set_option maxRecDepth 100000
set_option maxHeartbeats 4000000
theorem xand1 {a : Int} (h : -2147483648 ≤ a ∧ a < 2147483648) : xand a 1 = a % 2 := by
  unfold xand
  have h2 : ((Int32.ofInt a).toBitVec &&& 1#32).toNat = (Int32.ofInt a).toBitVec.toNat % 2 := by
    rw [BitVec.toNat_and]
    exact Nat.and_one_is_mod _
  have h3 := x_tn a
  show ((Int32.ofInt a).toBitVec &&& 1#32).toInt = _
  rw [BitVec.toInt_eq_toNat_of_lt (by rw [h2]; omega), h2]
  omega
theorem x_in {d : Nat} {h : XH} (v lo hi : Int) : WpM d 6 [.inl v, .inl lo, .inl hi] h (XE (some (.inl (if lo ≤ v ∧ v ≤ hi then 1 else 0))) h) := by
  refine WpM.of rfl (Wp.vc 400 [] rfl ?_)
  (repeat' (first | refine And.intro ?_ ?_ | intro _))
  all_goals (first | rfl | assumption | omega | (rw [if_pos (by omega)]; done) | (rw [if_neg (by omega)]; done))
theorem m_in {d : Nat} {h : XH} (v lo hi : Int) : WpM d 156 [.inl v, .inl lo, .inl hi] h (XE (some (.inl (if lo ≤ v ∧ v ≤ hi then 1 else 0))) h) := by
  refine WpM.of rfl (Wp.vc 400 [] rfl ?_)
  (repeat' (first | refine And.intro ?_ ?_ | intro _))
  all_goals (first | rfl | assumption | omega | (rw [if_pos (by omega)]; done) | (rw [if_neg (by omega)]; done))
/-- whether a set has k -/
abbrev xbit (s k : Int) : Prop := s / 2 ^ k.toNat % 2 = 1
theorem xshr_rg {s : Int} {k : Nat} (hs : -2147483648 ≤ s ∧ s < 2147483648) : -2147483648 ≤ s / 2 ^ k ∧ s / 2 ^ k < 2147483648 := x_shr_ok (a := s) (b := (k : Int)) hs
theorem x_has {d : Nat} {h : XH} (s k : Int) (hs : -2147483648 ≤ s ∧ s < 2147483648) (hk : 0 ≤ k ∧ k < 32) : WpM d 12 [.inl s, .inl k] h (XE (some (.inl (if xbit s k then 1 else 0))) h) := by
  have e := xand1 (xshr_rg (k := k.toNat) hs)
  refine WpM.of rfl (Wp.vc 400 [] rfl ?_)
  rw [e]
  (repeat' (first | refine And.intro ?_ ?_ | intro _))
  all_goals (first | rfl | assumption | omega | (rw [if_pos (by omega)]; done) | (rw [if_neg (by omega)]; done))
theorem m_bit {d : Nat} {h : XH} (s k : Int) (hs : -2147483648 ≤ s ∧ s < 2147483648) (hk : 0 ≤ k ∧ k < 32) : WpM d 180 [.inl s, .inl k] h (XE (some (.inl (if xbit s k then 1 else 0))) h) := by
  have e := xand1 (xshr_rg (k := k.toNat) hs)
  refine WpM.of rfl (Wp.vc 400 [] rfl ?_)
  rw [e]
  (repeat' (first | refine And.intro ?_ ?_ | intro _))
  all_goals (first | rfl | assumption | omega | (rw [if_pos (by omega)]; done) | (rw [if_neg (by omega)]; done))
/-- how many a set has (of the first seven) -/
def xones (s : Int) : Int := s % 2 + s / 2 % 2 + s / 4 % 2 + s / 8 % 2 + s / 16 % 2 + s / 32 % 2 + s / 64 % 2
theorem xones_step : ∀ n : Fin 128, n.val ≠ 0 → (0 ≤ xand (n.val : Int) ((n.val : Int) - 1) ∧ xand (n.val : Int) ((n.val : Int) - 1) < (n.val : Int) ∧ xones (xand (n.val : Int) ((n.val : Int) - 1)) = xones (n.val : Int) - 1) := by decide +kernel
theorem xones_st {s : Int} (h : 0 ≤ s ∧ s < 128) (h0 : s ≠ 0) : 0 ≤ xand s (s - 1) ∧ xand s (s - 1) < s ∧ xones (xand s (s - 1)) = xones s - 1 := by
  obtain ⟨n, rfl⟩ := Int.eq_ofNat_of_zero_le h.1
  exact xones_step ⟨n, by omega⟩ (fun e => h0 (by show (n : Int) = 0; have : n = 0 := e; omega))
theorem xones_rg (s : Int) : 0 ≤ xones s ∧ xones s ≤ 7 := by unfold xones; omega
theorem xones_0 : xones 0 = 0 := by decide
theorem x_ones {d : Nat} {h : XH} (s : Int) (hs : 0 ≤ s ∧ s < 128) : WpM d 44 [.inl s] h (XE (some (.inl (xones s))) h) := by
  refine WpM.of rfl (Wp.vc 400 [4] rfl ?_)
  have key : ∀ q : Int × Int, (0 ≤ q.1 ∧ q.1 < 128 ∧ 0 ≤ q.2 ∧ q.2 + xones q.1 = xones s) → Wp d 44 4 [some (.inl s), some (.inl q.2), some (.inl q.1)] [] h (XE (some (.inl (xones s))) h) := by
    refine loopM (fun q => q.1.toNat) ?_
    rintro ⟨r, n⟩ ⟨r0, r1, n0, n1⟩ ih
    have hr := xones_rg r
    have hs7 := xones_rg s
    simp only at r0 r1 n0 n1 hr ih
    refine Wp.vc 400 [4] rfl ?_
    refine ⟨fun c => ?_, fun c => ?_⟩
    · have c : r = 0 := c
      subst c
      rw [xones_0] at n1
      refine ⟨trivial, ?_, rfl⟩
      rw [← n1]
      simp
    · obtain ⟨a1, a2, a3⟩ := xones_st ⟨r0, r1⟩ c
      refine ⟨⟨by show -2147483648 ≤ n + 1; omega, by show n + 1 < 2147483648; omega⟩, ⟨by show -2147483648 ≤ r - 1; omega, by show r - 1 < 2147483648; omega⟩, ih (xand r (r - 1), n + 1) ?_ ⟨a1, by show xand r (r - 1) < 128; omega, by show 0 ≤ n + 1; omega, by show n + 1 + xones (xand r (r - 1)) = _; omega⟩⟩
      show (xand r (r - 1)).toNat < r.toNat
      omega
  exact key (s, 0) ⟨hs.1, hs.2, Int.le_refl _, Int.zero_add _⟩
theorem m_bits {d : Nat} {h : XH} (s : Int) (hs : 0 ≤ s ∧ s < 128) : WpM d 226 [.inl s] h (XE (some (.inl (xones s))) h) := by
  refine WpM.of rfl (Wp.vc 400 [4] rfl ?_)
  have key : ∀ q : Int × Int, (0 ≤ q.1 ∧ q.1 < 128 ∧ 0 ≤ q.2 ∧ q.2 + xones q.1 = xones s) → Wp d 226 4 [some (.inl s), some (.inl q.2), some (.inl q.1)] [] h (XE (some (.inl (xones s))) h) := by
    refine loopM (fun q => q.1.toNat) ?_
    rintro ⟨r, n⟩ ⟨r0, r1, n0, n1⟩ ih
    have hr := xones_rg r
    have hs7 := xones_rg s
    simp only at r0 r1 n0 n1 hr ih
    refine Wp.vc 400 [4] rfl ?_
    refine ⟨fun c => ?_, fun c => ?_⟩
    · have c : r = 0 := c
      subst c
      rw [xones_0] at n1
      refine ⟨trivial, ?_, rfl⟩
      rw [← n1]
      simp
    · obtain ⟨a1, a2, a3⟩ := xones_st ⟨r0, r1⟩ c
      refine ⟨⟨by show -2147483648 ≤ n + 1; omega, by show n + 1 < 2147483648; omega⟩, ⟨by show -2147483648 ≤ r - 1; omega, by show r - 1 < 2147483648; omega⟩, ih (xand r (r - 1), n + 1) ?_ ⟨a1, by show xand r (r - 1) < 128; omega, by show 0 ≤ n + 1; omega, by show n + 1 + xones (xand r (r - 1)) = _; omega⟩⟩
      show (xand r (r - 1)).toNat < r.toNat
      omega
  exact key (s, 0) ⟨hs.1, hs.2, Int.le_refl _, Int.zero_add _⟩
