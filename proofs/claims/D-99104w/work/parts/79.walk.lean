/-! WALKS, 20: candle -/
set_option maxRecDepth 100000
set_option maxHeartbeats 4000000
theorem pigeon : ∀ (n : Nat) (f : Nat → Nat), (∀ i, i ≤ n → f i < n) → ∃ i j, i < j ∧ j ≤ n ∧ f i = f j := by
  intro n
  induction n with
  | zero => intro f h; exact absurd (h 0 (Nat.le_refl _)) (Nat.not_lt_zero _)
  | succ n ih =>
    intro f h
    by_cases c : ∃ i, i ≤ n ∧ f i = f (n + 1)
    · obtain ⟨i, h1, h2⟩ := c
      exact ⟨i, n + 1, by omega, Nat.le_refl _, h2⟩
    · have c' : ∀ i, i ≤ n → f i ≠ f (n + 1) := fun i hi e => c ⟨i, hi, e⟩
      obtain ⟨i, j, h1, h2, h3⟩ := ih (fun i => if f i = n then f (n + 1) else f i) (fun i hi => by
        have h4 := h i (by omega)
        have h5 := h (n + 1) (Nat.le_refl _)
        have h6 := c' i hi
        show (if f i = n then f (n + 1) else f i) < n
        split <;> omega)
      refine ⟨i, j, h1, by omega, ?_⟩
      have h3 : (if f i = n then f (n + 1) else f i) = (if f j = n then f (n + 1) else f j) := h3
      have h6 := c' i (by omega)
      have h7 := c' j h2
      split at h3 <;> split at h3 <;> omega
theorem xgo_succ (V : Int → Int) : ∀ (n : Nat) (g : Int), xgo V (n + 1) g = if xgo V n g = -2 then -2 else V (xgo V n g) := by
  intro n
  induction n with
  | zero =>
    intro g
    show (if g = -2 then g else V g) = if g = -2 then -2 else V g
    split
    · next e => exact e
    · rfl
  | succ n ih =>
    intro g
    show (if g = -2 then g else xgo V (n + 1) (V g)) = if (if g = -2 then g else xgo V n (V g)) = -2 then -2 else V (if g = -2 then g else xgo V n (V g))
    by_cases c : g = -2
    · rw [if_pos c, if_pos c, if_pos c]
      exact c
    · rw [if_neg c, if_neg c]
      exact ih (V g)
def candle (V : Int → Int) (h : Int) : Int := xfst (fun n => decide (xgo V n.toNat h = h)) 7 1
theorem xgo_rg {V : Int → Int} {n : Int} (h1 : ∀ i : Int, 0 ≤ i → i < n → V i = -2 ∨ (0 ≤ V i ∧ V i < n ∧ V i ≠ i)) {h : Int} (h0 : 0 ≤ h ∧ h < n) : ∀ k : Nat, xgo V k h = -2 ∨ (0 ≤ xgo V k h ∧ xgo V k h < n) := by
  intro k
  induction k with
  | zero => exact Or.inr h0
  | succ k ih =>
    rw [xgo_succ]
    by_cases c : xgo V k h = -2
    · rw [if_pos c]; exact Or.inl rfl
    · rw [if_neg c]
      rcases ih with w | w
      · exact absurd w c
      · rcases h1 _ w.1 w.2 with q | q
        · exact Or.inl q
        · exact Or.inr ⟨q.1, q.2.1⟩
/-- one comes back or ends within seven doors -/
theorem xgo_ends {V : Int → Int} {n : Int} (n7 : n ≤ 7) (h1 : ∀ i : Int, 0 ≤ i → i < n → V i = -2 ∨ (0 ≤ V i ∧ V i < n ∧ V i ≠ i)) (h2 : ∀ i j : Int, 0 ≤ i → i < n → 0 ≤ j → j < n → V i = V j → V i ≠ -2 → i = j) {h : Int} (h0 : 0 ≤ h ∧ h < n) : ∃ j : Nat, 1 ≤ j ∧ j ≤ 7 ∧ (xgo V j h = -2 ∨ xgo V j h = h) := by
  refine Classical.byContradiction fun c => ?_
  have c : ∀ j : Nat, 1 ≤ j → j ≤ 7 → xgo V j h ≠ -2 ∧ xgo V j h ≠ h := fun j a b => ⟨fun e => c ⟨j, a, b, Or.inl e⟩, fun e => c ⟨j, a, b, Or.inr e⟩⟩
  have rg : ∀ k : Nat, k ≤ 7 → 0 ≤ xgo V k h ∧ xgo V k h < n := fun k hk => by
    rcases xgo_rg h1 h0 k with e | e
    · by_cases k0 : k = 0
      · rw [k0]; exact h0
      · exact absurd e (c k (by omega) hk).1
    · exact e
  have dist : ∀ (i d : Nat), 1 ≤ d → i + d ≤ 7 → xgo V i h ≠ xgo V (i + d) h := by
    intro i
    induction i with
    | zero =>
      intro d d1 hd e
      exact (c (0 + d) (by omega) hd).2 e.symm
    | succ i ih =>
      intro d d1 hd e
      have r1 := rg i (by omega)
      have r2 := rg (i + d) (by omega)
      rw [show i + 1 + d = (i + d) + 1 by omega, xgo_succ, xgo_succ, if_neg (by omega), if_neg (by omega)] at e
      refine ih d d1 (by omega) (h2 _ _ r1.1 r1.2 r2.1 r2.2 e ?_)
      have := (c (i + 1) (by omega) (by omega)).1
      rwa [xgo_succ, if_neg (by omega)] at this
  obtain ⟨i, j, a1, a2, a3⟩ := pigeon 7 (fun k => (xgo V k h).toNat) (fun i hi => by
    have := rg i hi
    show (xgo V i h).toNat < 7
    omega)
  have r1 := rg i (by omega)
  have r2 := rg j a2
  have a3 : (xgo V i h).toNat = (xgo V j h).toNat := a3
  refine dist i (j - i) (by omega) (by omega) ?_
  rw [show i + (j - i) = j by omega]
  omega
theorem xgo_stop {V : Int → Int} {h : Int} {k : Nat} (e : xgo V k h = -2) : ∀ m : Nat, xgo V (k + m) h = -2 := by
  intro m
  induction m with
  | zero => exact e
  | succ m ih =>
    rw [show k + (m + 1) = (k + m) + 1 by omega, xgo_succ, if_pos ih]
theorem xfst_no {p : Int → Bool} : ∀ (m : Nat) (k : Int), (∀ i, k ≤ i → i < k + m → p i = false) → xfst p m k = -2 := by
  intro m
  induction m with
  | zero => intro k _; rfl
  | succ m ih =>
    intro k h
    show (if p k = true then k else xfst p m (k + 1)) = -2
    rw [h k (Int.le_refl _) (by omega), if_neg (by decide)]
    exact ih (k + 1) (fun i a b => h i (by omega) (by omega))
theorem xfst_at {p : Int → Bool} : ∀ (m : Nat) (k j : Int), k ≤ j → j < k + m → p j = true → (∀ i, k ≤ i → i < j → p i = false) → xfst p m k = j := by
  intro m
  induction m with
  | zero => intro k j a b; omega
  | succ m ih =>
    intro k j a b c h
    show (if p k = true then k else xfst p m (k + 1)) = j
    by_cases e : k = j
    · rw [e, if_pos c]
    · rw [h k (Int.le_refl _) (by omega), if_neg (by decide)]
      exact ih (k + 1) j (by omega) (by omega) c (fun i a b => h i (by omega) (by omega))
def opCandle (S : XSt) (i : Int) : Int × XSt := onH S i fun _ => sOk S (candle (sV S) i)
theorem x_opCandle {d : Nat} {h : XH} {B s n i : Int} {S : XSt} (R : Rx h B s S) (O : SOK n S) : WpM (d + 2) 18 [.inr (.inr s), .inl i] h (XAn B s h (.inl (opCandle S i).1) (opCandle S i).2) := by
  refine WpM.of rfl (Wp.vc 400 [] rfl ?_)
  refine XU.anew R O rfl (Nat.zero_le _) (fun h1 U => ?_)
  refine Wp.vc 400 [] rfl ?_
  refine U.hou rfl (Nat.zero_le _) (fun T e i0 => ?_) (fun hp => ?_)
  · rw [show opCandle S i = _ from onH_yes e i0]
    refine Wp.vc 400 [20] rfl ?_
    first | refine ⟨fun _ => ?_, fun c => absurd (by decide) c⟩ | refine ⟨fun c => absurd c (by decide), fun _ => ?_⟩
    have ts := U.ts
    have key : ∀ (k : Int) (g : XH), k ≤ 8 → (1 ≤ k ∧ g = h1) → Wp (d + 2) 18 20 [some (.inr (.inr s)), some (.inl i), some (.inl k)] [] g (XAn B s h (.inl (xfst (fun n => decide (xgo (sV S) n.toNat i = i)) (8 - k).toNat k)) (sSet S 0 (-1))) := by
      refine loopUp (G := fun k g => Wp (d + 2) 18 20 [some (.inr (.inr s)), some (.inl i), some (.inl k)] [] g (XAn B s h (.inl (xfst (fun n => decide (xgo (sV S) n.toNat i = i)) (8 - k).toNat k)) (sSet S 0 (-1)))) 8 ?_ ?_
      · rintro k g ⟨k1, rfl⟩ hk ih
        refine Wp.vc 400 [20] rfl ?_
        first | refine ⟨fun _ => ?_, fun c => absurd (by omega) c⟩ | refine ⟨fun c => absurd c (by omega), fun _ => ?_⟩
        refine Wp.callE (j := 0) rfl (Nat.le_of_ble_eq_true rfl) ⟨true, ts⟩ (x_behind U.1 U.2.1 e i0 ⟨by omega, by omega⟩) ?_
        rw [xfst_st hk]
        have ih := ih g ⟨by omega, rfl⟩
        refine Wp.vc 400 [20] rfl ?_
        refine ⟨fun c => ⟨⟨by omega, by omega⟩, ?_⟩, fun c => ⟨trivial, ?_⟩⟩
        · have c : ¬ xgo (sV S) k.toNat i = i := c
          rw [if_neg (by simpa using c)]
          exact ih
        · have c : ¬¬ xgo (sV S) k.toNat i = i := c
          rw [if_pos (by simpa using c)]
          exact U.ret
      · rintro g ⟨k1, rfl⟩
        rw [xfst_end]
        refine Wp.vc 400 [20] rfl ?_
        exact ⟨fun _ => ⟨trivial, U.ret⟩, fun c => absurd (show (7 : Int) < 8 by decide) c⟩
    exact key 1 h1 (by decide) ⟨by decide, rfl⟩
  · rw [show opCandle S i = _ from onH_no hp]
    refine Wp.vc 400 [20] rfl ?_
    first | refine ⟨fun _ => ?_, fun c => absurd (by decide) c⟩ | refine ⟨fun c => absurd c (by decide), fun _ => ?_⟩
    exact U.no (k := 1) (by decide) rfl (fun _ => rfl) rfl
theorem m_opCandle {d : Nat} {h : XH} {B m n i : Int} {S : XSt} (R : Rm h B m S) (O : SOK n S) : WpM (d + 1) 186 [.inr (.inr m), .inl i] h (MAn B m h (.inl (opCandle S i).1) (opCandle S i).2) := by
  refine WpM.of rfl (MU.start R O rfl (fun g U => ?_))
  refine Wp.vc 400 [] rfl ?_
  refine U.hou rfl (Nat.zero_le _) (fun T e i0 => ?_) (fun hp => ?_)
  · rw [show opCandle S i = _ from onH_yes e i0]
    obtain ⟨ne, TX, hv, -⟩ := U.hasT e
    obtain ⟨TO, VO⟩ := U.ok e
    have hn := TO.2.2.1
    have tm := U.tm
    obtain ⟨t2, f2⟩ := U.v2
    obtain ⟨j, j1, j7, hj⟩ := xgo_ends hn.2 VO.1 VO.2.1 i0
    have rg := xgo_rg VO.1 i0
    clear TX TO VO
    refine Wp.vc 400 [30] rfl ?_
    first | refine ⟨fun _ => ?_, fun c => absurd (by decide) c⟩ | refine ⟨fun c => absurd c (by decide), fun _ => ?_⟩
    rw [f2, Int.zero_add, hv i i0.1 (by omega)]
    (repeat (refine And.intro (by first | exact trivial | exact isF (by assumption) rfl | exact isW (by assumption) rfl | exact isA (by assumption) (by omega) (by omega) | exact isB (by assumption) (by omega) (by omega) | exact isR (by assumption) (by decide) (by omega) (by omega) | (refine ⟨by omega, by omega⟩)) ?_))
    have key : ∀ (k : Nat), (1 ≤ k ∧ ∀ q : Nat, 1 ≤ q → q < k → xgo (sV S) q i ≠ i ∧ xgo (sV S) q i ≠ -2) → Wp (d + 1) 186 30 [some (.inr (.inr m)), some (.inl i), some (.inl (k : Int)), some (.inl (xgo (sV S) k i))] [] g (MAn B m h (.inl (candle (sV S) i)) (sSet S 0 (-1))) := by
      refine loopM (fun k : Nat => 8 - k) ?_
      rintro k ⟨k1, hk⟩ ih
      have kj : k ≤ j := by
        refine Nat.le_of_not_lt fun w => ?_
        have := hk j j1 w
        rcases hj with q | q
        · exact this.2 q
        · exact this.1 q
      refine Wp.vc 400 [30] rfl ?_
      refine ⟨fun c => ?_, fun c => ⟨fun c2 => ?_, fun c2 => ?_⟩⟩
      · refine ⟨fun w => absurd c w, fun _ => ?_⟩
        have c : xgo (sV S) k i = -2 := c
        rw [show candle (sV S) i = -2 from ?_]
        · exact U.good (k := -2) rfl (fun _ => rfl) rfl
        · refine xfst_no _ _ fun q q1 q2 => ?_
          have hne : xgo (sV S) q.toNat i ≠ i := by
            rcases Nat.lt_or_ge q.toNat k with w | w
            · exact (hk q.toNat (by omega) w).1
            · rw [show q.toNat = k + (q.toNat - k) by omega, xgo_stop c]
              omega
          simpa using hne
      · have c2 : xgo (sV S) k i = i := c2
        refine ⟨fun _ => ?_, fun w => absurd c w⟩
        rw [show candle (sV S) i = (k : Int) from ?_]
        · exact U.good (k := (k : Int)) rfl (fun _ => rfl) rfl
        · refine xfst_at _ _ _ (by omega) (by omega) (by simpa using c2) fun q q1 q2 => ?_
          have := (hk q.toNat (by omega) (by omega)).1
          simpa using this
      · have c : ¬ xgo (sV S) k i = -2 := c
        have c2 : ¬ xgo (sV S) k i = i := c2
        have r := (rg k).resolve_left c
        have es := xgo_succ (sV S) k i
        rw [if_neg c] at es
        rw [f2, Int.zero_add, hv _ r.1 (by omega), ← es]
        (repeat (refine And.intro (by first | exact trivial | exact isF (by assumption) rfl | exact isW (by assumption) rfl | exact isA (by assumption) (by omega) (by omega) | exact isB (by assumption) (by omega) (by omega) | exact isR (by assumption) (by decide) (by omega) (by omega) | (refine ⟨by omega, by omega⟩)) ?_))
        exact ih (k + 1) (by omega) ⟨by omega, fun q q1 q2 => by
          by_cases eq : q = k
          · rw [eq]; exact ⟨c2, c⟩
          · exact hk q q1 (by omega)⟩
    have k1 := key 1 ⟨Nat.le_refl _, fun q q1 q2 => by omega⟩
    rw [show xgo (sV S) 1 i = sV S i from ?_] at k1
    · exact k1
    · rw [xgo_succ]
      exact if_neg (by show i ≠ -2; omega)
  · rw [show opCandle S i = _ from onH_no hp]
    refine Wp.vc 400 [] rfl ?_
    first | refine ⟨fun _ => ?_, fun c => absurd (by decide) c⟩ | refine ⟨fun c => absurd c (by decide), fun _ => ?_⟩
    exact U.ref (k := 1) rfl (fun _ => rfl) rfl
