/-! WALKS, 6: whose rooms are: exchanges, pairs, lenders -/
set_option maxRecDepth 100000
set_option maxHeartbeats 4000000
/-- a row of n houses: free, or a house -/
def RowOK (w : Int → Int) (n : Int) : Prop := ∀ i : Int, 0 ≤ i → i < n → w i = -2 ∨ (0 ≤ w i ∧ w i < n)
abbrev canEx (w : Int → Int) (h g : Int) : Prop := h ≠ g ∧ w h ≠ -2 ∧ w g ≠ -2 ∧ w h ≠ g ∧ w g ≠ h
abbrev isMut (w : Int → Int) (h : Int) : Prop := w h ≠ -2 ∧ w (w h) = h
/-- a set of houses as bits -/
def xset_ (p : Int → Bool) : Nat → Int
  | 0 => 0
  | n + 1 => xset_ p n + (if p n = true then 2 ^ n else 0)
theorem xset_rg (p : Int → Bool) : ∀ n : Nat, 0 ≤ xset_ p n ∧ xset_ p n < 2 ^ n := by
  intro n
  induction n with
  | zero => exact ⟨Int.le_refl _, (show (0 : Int) < 1 by decide)⟩
  | succ n ih =>
    have e : (2 : Int) ^ (n + 1) = 2 ^ n + 2 ^ n := by rw [Int.pow_succ]; omega
    show 0 ≤ xset_ p n + (if p n = true then 2 ^ n else 0) ∧ xset_ p n + (if p n = true then 2 ^ n else 0) < _
    rw [e]
    split <;> omega
theorem xor_dec : ∀ (s : Fin 64) (k : Fin 7), (s.val : Int) < 2 ^ k.val → xor_ (s.val : Int) (1 * 2 ^ k.val) = (s.val : Int) + 2 ^ k.val ∧ xor_ (s.val : Int) 0 = (s.val : Int) := by decide +kernel
theorem xor_st {s : Int} {k : Nat} (hk : k < 7) (h : 0 ≤ s ∧ s < 2 ^ k) : xor_ s (1 * 2 ^ k) = s + 2 ^ k ∧ xor_ s 0 = s := by
  obtain ⟨n, rfl⟩ := Int.eq_ofNat_of_zero_le h.1
  have h64 : (2 : Int) ^ k ≤ 64 := by
    have : (2 : Nat) ^ k ≤ 2 ^ 6 := Nat.pow_le_pow_right (by decide) (by omega)
    exact_mod_cast this
  exact xor_dec ⟨n, by omega⟩ ⟨k, hk⟩ h.2
/-- the first from k on, of n, that is so; -2 -/
def xfst (p : Int → Bool) : Nat → Int → Int
  | 0, _ => -2
  | n + 1, k => if p k = true then k else xfst p n (k + 1)
def xmutual (w : Int → Int) (n : Int) : Int := xset_ (fun h => decide (isMut w h)) n.toNat
def xlender (w : Int → Int) (n g : Int) : Int := xfst (fun h => decide (w h = g)) n.toNat 0
theorem x_canExchange {d : Nat} {hp : XH} {a h g : Int} (L : RoomsL hp a) (h0 : 0 ≤ h ∧ h < 7) (g0 : 0 ≤ g ∧ g < 7) : WpM d 113 [.inr (.inr a), .inl h, .inl g] hp (XE (some (.inl (if canEx (xar hp (a + 1)) h g then 1 else 0))) hp) := by
  obtain ⟨-, t0, t1, -, -, f1, -⟩ := L
  refine WpM.of rfl (Wp.vc 400 [] rfl ?_)
  rw [f1]
  have g1 : xIsF hp a 40 := isF t0 rfl
  have g2 : xIsA hp (a + 1) 0 h := isA t1 h0.1 h0.2
  have g3 : xIsA hp (a + 1) 0 g := isA t1 g0.1 g0.2
  (repeat' (first | refine And.intro ?_ ?_ | intro _))
  all_goals (first | rfl | assumption | omega | (rw [if_pos (by omega)]; done) | (rw [if_neg (by omega)]; done))
theorem m_canExchange {d : Nat} {hp : XH} {a h g : Int} (t1 : xty hp a = some (true, 0, some 7)) (h0 : 0 ≤ h ∧ h < 7) (g0 : 0 ≤ g ∧ g < 7) : WpM d 224 [.inr (.inr a), .inl h, .inl g] hp (XE (some (.inl (if canEx (xar hp a) h g then 1 else 0))) hp) := by
  have g2 : xIsA hp a 0 h := isA t1 h0.1 h0.2
  have g3 : xIsA hp a 0 g := isA t1 g0.1 g0.2
  refine WpM.of rfl (Wp.vc 400 [] rfl ?_)
  (repeat' (first | refine And.intro ?_ ?_ | intro _))
  all_goals (first | rfl | assumption | omega | (rw [if_pos (by omega)]; done) | (rw [if_neg (by omega)]; done))
theorem x_exchange_ {d : Nat} {hp : XH} {a h g : Int} (L : RoomsL hp a) (h0 : 0 ≤ h ∧ h < 7) (g0 : 0 ≤ g ∧ g < 7) : WpM d 114 [.inr (.inr a), .inl h, .inl g] hp (XE none (xputa (xputa hp (a + 1) h (xar hp (a + 1) g)) (a + 1) g (xar hp (a + 1) h))) := by
  obtain ⟨-, t0, t1, -, -, f1, -⟩ := L
  refine WpM.of rfl (Wp.vc 400 [] rfl ?_)
  rw [show xfl (xputa hp (xfl hp a 40) h (xar hp (xfl hp a 40) g)) a 40 = xfl hp a 40 from rfl, f1]
  have g1 : xIsF hp a 40 := isF t0 rfl
  have g2 : xIsA hp (a + 1) 0 h := isA t1 h0.1 h0.2
  have g3 : xIsA hp (a + 1) 0 g := isA t1 g0.1 g0.2
  have g4 : xIsB hp (a + 1) 0 h := isB t1 h0.1 h0.2
  exact ⟨g1, g2, g1, g1, g3, g4, isF t0 rfl, isB t1 g0.1 g0.2, trivial, rfl, rfl⟩
theorem m_exchanges {d : Nat} {hp : XH} {a h g : Int} (t1 : xty hp a = some (true, 0, some 7)) (h0 : 0 ≤ h ∧ h < 7) (g0 : 0 ≤ g ∧ g < 7) : WpM d 225 [.inr (.inr a), .inl h, .inl g] hp (XE none (xputa (xputa hp a h (xar hp a g)) a g (xar hp a h))) := by
  refine WpM.of rfl (Wp.vc 400 [] rfl ?_)
  exact ⟨isA t1 h0.1 h0.2, isA t1 g0.1 g0.2, isB t1 h0.1 h0.2, isB t1 g0.1 g0.2, trivial, rfl, rfl⟩
theorem x_isMutual {d : Nat} {hp : XH} {a h n : Int} (L : RoomsL hp a) (hn : n ≤ 7) (hr : RowOK (xar hp (a + 1)) n) (h0 : 0 ≤ h ∧ h < n) : WpM d 110 [.inr (.inr a), .inl h] hp (XE (some (.inl (if isMut (xar hp (a + 1)) h then 1 else 0))) hp) := by
  obtain ⟨-, t0, t1, -, -, f1, -⟩ := L
  have g1 : xIsF hp a 40 := isF t0 rfl
  have g2 : xIsA hp (a + 1) 0 h := isA t1 h0.1 (by omega)
  have hw := hr h h0.1 h0.2
  refine WpM.of rfl (Wp.vc 400 [] rfl ?_)
  rw [f1]
  refine ⟨g1, g2, fun c => ?_, fun c => ?_⟩
  · (repeat' (first | refine And.intro ?_ ?_ | intro _))
    all_goals (first | rfl | assumption | omega | (rw [if_pos (by omega)]; done) | (rw [if_neg (by omega)]; done))
  · have g3 : xIsA hp (a + 1) 0 (xar hp (a + 1) h) := isA t1 (by omega) (by omega)
    (repeat' (first | refine And.intro ?_ ?_ | intro _))
    all_goals (first | rfl | assumption | omega | (rw [if_pos (by omega)]; done) | (rw [if_neg (by omega)]; done))
theorem xset_succ {p : Int → Bool} {k : Int} (h : 0 ≤ k) : xset_ p (k + 1).toNat = xset_ p k.toNat + (if p k = true then 2 ^ k.toNat else 0) := by
  obtain ⟨n, rfl⟩ := Int.eq_ofNat_of_zero_le h
  have e : ((n : Int) + 1).toNat = n + 1 := by omega
  rw [e]
  rfl
/-- what the step of a loop that gathers a set does -/
theorem xset_or {p : Int → Bool} {k s v : Int} (h : 0 ≤ k ∧ k < 7) (hs : s = xset_ p k.toNat) (hv : v = if p k = true then 1 * 2 ^ k.toNat else 0) : xor_ s v = xset_ p (k + 1).toNat := by
  have h1 := xset_rg p k.toNat
  have h2 := xor_st (s := s) (k := k.toNat) (by omega) (by rw [hs]; exact h1)
  rw [xset_succ h.1, ← hs, hv]
  split
  · rw [h2.1]
  · rw [h2.2]
    omega
theorem x2k {k : Int} (h : 0 ≤ k ∧ k < 7) : -2147483648 ≤ 1 * (2 : Int) ^ k.toNat ∧ 1 * (2 : Int) ^ k.toNat < 2147483648 := by
  have : ∀ n : Fin 7, -2147483648 ≤ 1 * (2 : Int) ^ n.val ∧ 1 * (2 : Int) ^ n.val < 2147483648 := by decide
  exact this ⟨k.toNat, by omega⟩
/-- a Rooms object and its town -/
def RoomsT (h : XH) (a t n : Int) : Prop := RoomsL h a ∧ xfl h a 43 = t ∧ (∃ w, xty h t = some (w, 10, none)) ∧ xfl h t 111 = n ∧ 0 ≤ n ∧ n ≤ 7 ∧ RowOK (xar h (a + 1)) n
theorem x_mutual {d : Nat} {hp : XH} {a t n : Int} (R : RoomsT hp a t n) : WpM (d + 1) 109 [.inr (.inr a)] hp (XE (some (.inl (xmutual (xar hp (a + 1)) n))) hp) := by
  obtain ⟨L, f43, ⟨w, tt⟩, fn, n0, n7, hr⟩ := R
  have t0 := L.2.1
  have g1 : xIsF hp a 43 := isF t0 rfl
  have g2 : xIsF hp t 111 := isF tt rfl
  refine WpM.of rfl (Wp.vc 400 [4] rfl ?_)
  have key : ∀ (k : Int) (h : XH), k ≤ n → (0 ≤ k ∧ h = hp) → Wp (d + 1) 109 4 [some (.inr (.inr a)), some (.inl (xset_ (fun h => decide (isMut (xar hp (a + 1)) h)) k.toNat)), some (.inl k)] [] h (XE (some (.inl (xmutual (xar hp (a + 1)) n))) hp) := by
    refine loopUp (G := fun k h => Wp (d + 1) 109 4 [some (.inr (.inr a)), some (.inl (xset_ (fun h => decide (isMut (xar hp (a + 1)) h)) k.toNat)), some (.inl k)] [] h (XE (some (.inl (xmutual (xar hp (a + 1)) n))) hp)) n ?_ ?_
    · rintro k h ⟨k0, rfl⟩ hk ih
      refine Wp.vc 400 [4] rfl ?_
      rw [f43, fn]
      refine ⟨g1, g2, fun c => absurd c (by omega), fun _ => ?_⟩
      refine Wp.callE (j := 0) rfl (Nat.le_of_ble_eq_true rfl) ⟨true, t0⟩ (x_isMutual L n7 hr ⟨k0, hk⟩) ?_
      have ih := ih h ⟨by omega, rfl⟩
      refine Wp.vc 400 [4] rfl ?_
      by_cases c : isMut (xar h (a + 1)) k
      · rw [if_pos c]
        refine ⟨fun w => absurd w (by decide), fun _ => ⟨⟨k0, by omega, (x2k ⟨k0, by omega⟩).1, (x2k ⟨k0, by omega⟩).2⟩, ⟨by omega, by omega⟩, ?_⟩⟩
        rw [xset_or (p := fun h' => decide (isMut (xar h (a + 1)) h')) ⟨k0, by omega⟩ rfl (by rw [if_pos (by simpa using c)])]
        exact ih
      · rw [if_neg c]
        refine ⟨fun _ => ⟨⟨by omega, by omega⟩, ?_⟩, fun w => absurd rfl w⟩
        rw [xset_or (p := fun h' => decide (isMut (xar h (a + 1)) h')) ⟨k0, by omega⟩ rfl (by rw [if_neg (by simpa using c)])]
        exact ih
    · rintro h ⟨k0, rfl⟩
      refine Wp.vc 400 [4] rfl ?_
      rw [f43, fn]
      exact ⟨g1, g2, fun _ => ⟨trivial, rfl, rfl⟩, fun c => absurd (Int.le_refl _) c⟩
  exact key 0 hp n0 ⟨by decide, rfl⟩
theorem xset_more {p : Int → Bool} {n m : Nat} (h : n ≤ m) (hp : ∀ i : Nat, n ≤ i → i < m → p i = false) : xset_ p m = xset_ p n := by
  induction m with
  | zero => rw [show n = 0 by omega]
  | succ m ih =>
    by_cases e : n = m + 1
    · rw [e]
    · show xset_ p m + (if p m = true then 2 ^ m else 0) = _
      rw [hp m (by omega) (by omega), ih (by omega) (fun i h1 h2 => hp i h1 (by omega))]
      simp
theorem m_pairedIn {d : Nat} {hp : XH} {r n : Int} (t1 : xty hp r = some (true, 0, some 7)) (n0 : 0 ≤ n) (n7 : n ≤ 7) (hr : RowOK (xar hp r) n) (hf : ∀ i : Int, n ≤ i → i < 7 → xar hp r i = -2) : WpM d 190 [.inr (.inr r)] hp (XE (some (.inl (xmutual (xar hp r) n))) hp) := by
  have e7 : xmutual (xar hp r) n = xset_ (fun h => decide (isMut (xar hp r) h)) (7 : Int).toNat := by
    unfold xmutual
    refine (xset_more (by show n.toNat ≤ 7; omega) fun i h1 h2 => ?_).symm
    have : xar hp r (i : Int) = -2 := hf i (by omega) (by have h2 : i < 7 := h2; omega)
    simp [isMut, this]
  rw [e7]
  refine WpM.of rfl (Wp.vc 400 [4] rfl ?_)
  have key : ∀ (k : Int) (h : XH), k ≤ 7 → (0 ≤ k ∧ h = hp) → Wp d 190 4 [some (.inr (.inr r)), some (.inl (xset_ (fun h => decide (isMut (xar hp r) h)) k.toNat)), some (.inl k)] [] h (XE (some (.inl (xset_ (fun h => decide (isMut (xar hp r) h)) (7 : Int).toNat))) hp) := by
    refine loopUp (G := fun k h => Wp d 190 4 [some (.inr (.inr r)), some (.inl (xset_ (fun h => decide (isMut (xar hp r) h)) k.toNat)), some (.inl k)] [] h (XE (some (.inl (xset_ (fun h => decide (isMut (xar hp r) h)) (7 : Int).toNat))) hp)) 7 ?_ ?_
    · rintro k h ⟨k0, rfl⟩ hk ih
      have ih := ih h ⟨by omega, rfl⟩
      have g2 : xIsA h r 0 k := isA t1 k0 hk
      have pos : isMut (xar h r) k → xor_ (xset_ (fun h' => decide (isMut (xar h r) h')) k.toNat) (1 * 2 ^ k.toNat) = xset_ (fun h' => decide (isMut (xar h r) h')) (k + 1).toNat := fun c => xset_or (p := fun h' => decide (isMut (xar h r) h')) ⟨k0, by omega⟩ rfl (by rw [if_pos (by simpa using c)])
      have neg : ¬ isMut (xar h r) k → xor_ (xset_ (fun h' => decide (isMut (xar h r) h')) k.toNat) 0 = xset_ (fun h' => decide (isMut (xar h r) h')) (k + 1).toNat := fun c => xset_or (p := fun h' => decide (isMut (xar h r) h')) ⟨k0, by omega⟩ rfl (by rw [if_neg (by simpa using c)])
      refine Wp.vc 400 [4] rfl ?_
      refine ⟨fun c => absurd c (by omega), fun _ => ⟨g2, fun c => ⟨⟨by omega, by omega⟩, ?_⟩, fun c => ⟨g2, ?_⟩⟩⟩
      · rw [neg (fun w => w.1 c)]
        exact ih
      · have hk' : 0 ≤ xar h r k ∧ xar h r k < 7 := by
          rcases Int.lt_or_le k n with q | q
          · have := hr k k0 q
            omega
          · exact absurd (hf k q hk) c
        refine ⟨isA t1 hk'.1 hk'.2, fun c2 => ⟨⟨by omega, by omega⟩, ?_⟩, fun c2 => ⟨⟨k0, by omega, (x2k ⟨k0, by omega⟩).1, (x2k ⟨k0, by omega⟩).2⟩, ⟨by omega, by omega⟩, ?_⟩⟩
        · rw [neg (fun w => c2 w.2)]
          exact ih
        · rw [pos ⟨c, Decidable.of_not_not c2⟩]
          exact ih
    · rintro h ⟨k0, rfl⟩
      refine Wp.vc 400 [4] rfl ?_
      exact ⟨fun _ => ⟨trivial, rfl, rfl⟩, fun c => absurd (Int.le_refl _) c⟩
  exact key 0 hp (by decide) ⟨by decide, rfl⟩
theorem xfst_st {p : Int → Bool} {k n : Int} (h : k < n) : xfst p (n - k).toNat k = if p k = true then k else xfst p (n - (k + 1)).toNat (k + 1) := by
  have e : (n - k).toNat = (n - (k + 1)).toNat + 1 := by omega
  rw [e]
  rfl
theorem xfst_end {p : Int → Bool} {n : Int} : xfst p (n - n).toNat n = -2 := by
  rw [show n - n = 0 by omega]
  rfl
/-- what the first is: in range, so, none ahead of it; or -2 and none -/
theorem xfst_spec {p : Int → Bool} : ∀ (m : Nat) (k : Int), (xfst p m k = -2 ∧ ∀ i, k ≤ i → i < k + m → p i = false) ∨ (k ≤ xfst p m k ∧ xfst p m k < k + m ∧ p (xfst p m k) = true ∧ ∀ i, k ≤ i → i < xfst p m k → p i = false) := by
  intro m
  induction m with
  | zero => intro k; exact Or.inl ⟨rfl, fun i h1 h2 => by omega⟩
  | succ m ih =>
    intro k
    show ((if p k = true then k else xfst p m (k + 1)) = -2 ∧ _) ∨ (k ≤ (if p k = true then k else xfst p m (k + 1)) ∧ (if p k = true then k else xfst p m (k + 1)) < _ ∧ p (if p k = true then k else xfst p m (k + 1)) = true ∧ ∀ i, k ≤ i → i < (if p k = true then k else xfst p m (k + 1)) → p i = false)
    by_cases c : p k = true
    · rw [if_pos c]
      exact Or.inr ⟨Int.le_refl _, by omega, c, fun i h1 h2 => by omega⟩
    · rw [if_neg c]
      have cf : p k = false := by simpa using c
      have e : ∀ i, k ≤ i → i ≠ k → k + 1 ≤ i := fun i h1 h2 => by omega
      rcases ih (k + 1) with ⟨q1, q2⟩ | ⟨q1, q2, q3, q4⟩
      · refine Or.inl ⟨q1, fun i h1 h2 => ?_⟩
        by_cases ei : i = k
        · rw [ei]; exact cf
        · exact q2 i (e i h1 ei) (by omega)
      · refine Or.inr ⟨by omega, by omega, q3, fun i h1 h2 => ?_⟩
        by_cases ei : i = k
        · rw [ei]; exact cf
        · exact q4 i (e i h1 ei) h2
theorem xlender_st {w : Int → Int} {n g : Int} : xlender w n g = xfst (fun h => decide (w h = g)) (n - 0).toNat 0 := by
  unfold xlender
  rw [Int.sub_zero]
theorem x_lender {d : Nat} {hp : XH} {a t n g : Int} (R : RoomsT hp a t n) : WpM d 107 [.inr (.inr a), .inl g] hp (XE (some (.inl (xlender (xar hp (a + 1)) n g))) hp) := by
  obtain ⟨L, f43, ⟨w, tt⟩, fn, n0, n7, hr⟩ := R
  have g1 : xIsF hp a 43 := isF L.2.1 rfl
  have g2 : xIsF hp t 111 := isF tt rfl
  have g3 : xIsF hp a 40 := isF L.2.1 rfl
  have f40 := L.2.2.2.2.2.1
  rw [xlender_st]
  refine WpM.of rfl (Wp.vc 400 [2] rfl ?_)
  have key : ∀ (k : Int) (h : XH), k ≤ n → (0 ≤ k ∧ h = hp) → Wp d 107 2 [some (.inr (.inr a)), some (.inl g), some (.inl k)] [] h (XE (some (.inl (xfst (fun h => decide (xar hp (a + 1) h = g)) (n - k).toNat k))) hp) := by
    refine loopUp (G := fun k h => Wp d 107 2 [some (.inr (.inr a)), some (.inl g), some (.inl k)] [] h (XE (some (.inl (xfst (fun h => decide (xar hp (a + 1) h = g)) (n - k).toNat k))) hp)) n ?_ ?_
    · rintro k h ⟨k0, rfl⟩ hk ih
      have ih := ih h ⟨by omega, rfl⟩
      rw [xfst_st hk]
      refine Wp.vc 400 [2] rfl ?_
      rw [f43, fn, f40]
      refine ⟨g1, g2, fun c => absurd c (by omega), fun _ => ⟨g3, isA L.2.2.1 k0 (by omega), fun c => ⟨⟨by omega, by omega⟩, ?_⟩, fun c => ⟨trivial, ?_⟩⟩⟩
      · rw [if_neg (by simpa using c)]
        exact ih
      · rw [if_pos (by simpa using c)]
        exact ⟨rfl, rfl⟩
    · rintro h ⟨k0, rfl⟩
      rw [xfst_end]
      refine Wp.vc 400 [2] rfl ?_
      rw [f43, fn]
      exact ⟨g1, g2, fun _ => ⟨trivial, rfl, rfl⟩, fun c => absurd (Int.le_refl _) c⟩
  exact key 0 hp n0 ⟨by decide, rfl⟩
theorem m_whose {d : Nat} {hp : XH} {m t n g : Int} (L : ModelL hp m) (ft : xfl hp m 69 = t) (tt : xty hp t = some (true, 15, none)) (fn : xfl hp t 135 = n) (n0 : 0 ≤ n) (n7 : n ≤ 7) : WpM d 179 [.inr (.inr m), .inl g] hp (XE (some (.inl (xlender (xar hp (m + 2)) n g))) hp) := by
  have tm := L.1
  obtain ⟨t2, f81⟩ := L.2.2.1
  have g1 : xIsF hp m 69 := isF tm rfl
  have g2 : xIsF hp t 135 := isF tt rfl
  have g3 : xIsF hp m 81 := isF tm rfl
  rw [xlender_st]
  refine WpM.of rfl (Wp.vc 400 [2] rfl ?_)
  have key : ∀ (k : Int) (h : XH), k ≤ n → (0 ≤ k ∧ h = hp) → Wp d 179 2 [some (.inr (.inr m)), some (.inl g), some (.inl k)] [] h (XE (some (.inl (xfst (fun h => decide (xar hp (m + 2) h = g)) (n - k).toNat k))) hp) := by
    refine loopUp (G := fun k h => Wp d 179 2 [some (.inr (.inr m)), some (.inl g), some (.inl k)] [] h (XE (some (.inl (xfst (fun h => decide (xar hp (m + 2) h = g)) (n - k).toNat k))) hp)) n ?_ ?_
    · rintro k h ⟨k0, rfl⟩ hk ih
      have ih := ih h ⟨by omega, rfl⟩
      rw [xfst_st hk]
      refine Wp.vc 400 [2] rfl ?_
      rw [ft, fn, f81, Int.zero_add]
      refine ⟨g1, g2, fun c => absurd c (by omega), fun _ => ⟨g3, ⟨by omega, by omega⟩, isA t2 k0 (by omega), fun c => ⟨⟨by omega, by omega⟩, ?_⟩, fun c => ⟨trivial, ?_⟩⟩⟩
      · rw [if_neg (by simpa using c)]
        exact ih
      · rw [if_pos (by simpa using c)]
        exact ⟨rfl, rfl⟩
    · rintro h ⟨k0, rfl⟩
      rw [xfst_end]
      refine Wp.vc 400 [2] rfl ?_
      rw [ft, fn]
      exact ⟨g1, g2, fun _ => ⟨trivial, rfl, rfl⟩, fun c => absurd (Int.le_refl _) c⟩
  exact key 0 hp n0 ⟨by decide, rfl⟩
