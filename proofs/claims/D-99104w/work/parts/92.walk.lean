/-! WALKS, 33: rests, rest -/
set_option maxRecDepth 100000
set_option maxHeartbeats 4000000
/-- nobody gains by another number of tens -/
def isRt1 (T : XTw) (V : Int → Int) (i j a b k : Int) : Prop := k * ten T V i k j b ≤ a * ten T V i a j b ∧ k * ten T V j k i a ≤ b * ten T V j b i a
def isRt (T : XTw) (V : Int → Int) (i j a b : Int) : Prop := ∀ k : Int, 0 ≤ k → k < 10 → isRt1 T V i j a b k
theorem x_isRest {d : Nat} {h0 h : XH} {B s n i a j b : Int} {S : XSt} {T : XTw} (U : XU B s n h0 h S) (e : sT S = some T) (i0 : 0 ≤ i ∧ i < tnh T) (j0 : 0 ≤ j ∧ j < tnh T) (a0 : 0 ≤ a ∧ a ≤ 9) (b0 : 0 ≤ b ∧ b ≤ 9) : WpM (d + 4) 54 [.inr (.inr s), .inl i, .inl a, .inl j, .inl b] h (XE (some (.inl (xb (isRt T (sV S) i j a b)))) h) := by
  have ts := U.ts
  have ge := fun i a j b i0 j0 a0 b0 => x_gainOf (d := d) (i := i) (a := a) (j := j) (b := b) U e i0 j0 a0 b0
  clear U
  refine WpM.of rfl (Wp.vc 400 [6] rfl ?_)
  have key : ∀ (k : Int) (h1 : XH), k ≤ 10 → (0 ≤ k ∧ h1 = h) → Wp (d + 4) 54 6 [some (.inr (.inr s)), some (.inl i), some (.inl a), some (.inl j), some (.inl b), some (.inl (xb (∀ q : Int, 0 ≤ q → q < k → isRt1 T (sV S) i j a b q))), some (.inl k)] [] h1 (XE (some (.inl (xb (isRt T (sV S) i j a b)))) h) := by
    refine loopUp (G := fun k h1 => Wp (d + 4) 54 6 [some (.inr (.inr s)), some (.inl i), some (.inl a), some (.inl j), some (.inl b), some (.inl (xb (∀ q : Int, 0 ≤ q → q < k → isRt1 T (sV S) i j a b q))), some (.inl k)] [] h1 (XE (some (.inl (xb (isRt T (sV S) i j a b)))) h)) 10 ?_ ?_
    · rintro k h1 ⟨k0, rfl⟩ hk ih
      have ih := ih h1 ⟨by omega, rfl⟩
      have b1 : ∀ v : Int, v = xb (∀ q : Int, 0 ≤ q → q < k + 1 → isRt1 T (sV S) i j a b q) → Wp (d + 4) 54 66 [some (.inr (.inr s)), some (.inl i), some (.inl a), some (.inl j), some (.inl b), some (.inl (xb (∀ q : Int, 0 ≤ q → q < k → isRt1 T (sV S) i j a b q))), some (.inl k)] [.inl v] h1 (XE (some (.inl (xb (isRt T (sV S) i j a b)))) h1) := by
        intro v hv
        subst hv
        refine Wp.vc 400 [6] rfl ?_
        exact ⟨⟨by omega, by omega⟩, ih⟩
      have no : (¬ ∀ q : Int, 0 ≤ q → q < k + 1 → isRt1 T (sV S) i j a b q) → 0 = xb (∀ q : Int, 0 ≤ q → q < k + 1 → isRt1 T (sV S) i j a b q) := fun w => (xb_neg w).symm
      have yes : (∀ q : Int, 0 ≤ q → q < k → isRt1 T (sV S) i j a b q) → isRt1 T (sV S) i j a b k → 1 = xb (∀ q : Int, 0 ≤ q → q < k + 1 → isRt1 T (sV S) i j a b q) := fun w1 w2 => (xb_pos fun q q0 q1 => by
        by_cases c : q = k
        · rw [c]; exact w2
        · exact w1 q q0 (by omega)).symm
      clear ih
      refine Wp.vc 400 [6, 66] rfl ?_
      refine ⟨fun w => absurd w (by omega), fun _ => ⟨fun c => b1 0 (no fun w => xb_0.mp c fun q q0 q1 => w q q0 (by omega)), fun c => ?_⟩⟩
      have c := Classical.byContradiction fun w => c (xb_0.mpr w)
      refine Wp.callE (j := 0) rfl (Nat.le_of_ble_eq_true rfl) ⟨true, ts⟩ (ge i k j b i0 j0 ⟨k0, by omega⟩ b0) ?_
      refine Wp.vc 400 [6, 66] rfl ?_
      refine Wp.callE (j := 0) rfl (Nat.le_of_ble_eq_true rfl) ⟨true, ts⟩ (ge i a j b i0 j0 a0 b0) ?_
      refine Wp.vc 400 [6, 66] rfl ?_
      refine ⟨fun c1 => b1 0 (no fun w => ?_), fun c1 => ?_⟩
      · have := (w k k0 (by omega)).1
        have c1 : a * ten T (sV S) i a j b < k * ten T (sV S) i k j b := c1
        omega
      · have c1 : ¬ a * ten T (sV S) i a j b < k * ten T (sV S) i k j b := c1
        refine Wp.callE (j := 0) rfl (Nat.le_of_ble_eq_true rfl) ⟨true, ts⟩ (ge j k i a j0 i0 ⟨k0, by omega⟩ a0) ?_
        refine Wp.vc 400 [6, 66] rfl ?_
        refine Wp.callE (j := 0) rfl (Nat.le_of_ble_eq_true rfl) ⟨true, ts⟩ (ge j b i a j0 i0 b0 a0) ?_
        refine Wp.vc 400 [6, 66] rfl ?_
        refine ⟨fun c2 => b1 0 (no fun w => ?_), fun c2 => b1 1 (yes c ⟨by omega, ?_⟩)⟩
        · have := (w k k0 (by omega)).2
          have c2 : b * ten T (sV S) j b i a < k * ten T (sV S) j k i a := c2
          omega
        · have c2 : ¬ b * ten T (sV S) j b i a < k * ten T (sV S) j k i a := c2
          omega
    · rintro h1 ⟨k0, rfl⟩
      refine Wp.vc 400 [6] rfl ?_
      exact ⟨fun _ => ⟨xb_rg _, rfl, rfl⟩, fun w => absurd (show (9 : Int) < 10 by decide) w⟩
  have k0 := key 0 h (by decide) ⟨Int.le_refl _, rfl⟩
  rw [show xb (∀ q : Int, 0 ≤ q → q < 0 → isRt1 T (sV S) i j a b q) = 1 from xb_pos (fun q q0 q1 => by omega)] at k0
  exact k0
theorem MU.isRestK {d M pc np : Nat} {ls : XL} {st rest : XS} {B m n i a j b : Int} {h0 h : XH} {S : XSt} {T : XTw} {Q : XO → XH → Prop} (U : MU B m n h0 h S) (eT : sT S = some T) (i0 : 0 ≤ i ∧ i < tnh T) (j0 : 0 ≤ j ∧ j < tnh T) (a0 : 0 ≤ a ∧ a ≤ 9) (b0 : 0 ≤ b ∧ b ≤ 9) (e : xstK M pc 0 st = some (np, some 9, 236, [.inr (.inr m), .inl i, .inl j, .inl a, .inl b], rest)) (hw : xwords rest ≤ 8) (k : ∀ h1, MU B m n h0 h1 S → Wp (d + 4) M np ls (.inl (xb (isRt T (sV S) i j a b)) :: rest) h1 Q) : Wp (d + 4) M pc ls st h Q := by
  refine Wp.callR e hw ⟨true, U.tm⟩ (Q1 := fun v h' => v = some (.inl (xb (isRt T (sV S) i j a b))) ∧ MU B m n h0 h' S) ?_ (fun v h1 q => by
    obtain ⟨rfl, q1⟩ := q
    exact k h1 q1)
  have TO := (U.ok eT).1
  have tr := fun i a j b i0 j0 => ten_rg (V := sV S) (i := i) (a := a) (j := j) (b := b) TO i0 j0
  have m1 := mul_rg a0 (tr i a j b i0 j0)
  have m2 := mul_rg b0 (tr j b i a j0 i0)
  refine WpM.of rfl (Wp.vc 400 [] rfl ?_)
  refine U.tenK eT i0 j0 a0 b0 rfl (Nat.le_of_ble_eq_true rfl) (fun h1 U1 => ?_)
  refine Wp.vc 400 [] rfl ?_
  refine ⟨by omega, ?_⟩
  refine U1.tenK eT j0 i0 b0 a0 rfl (Nat.le_of_ble_eq_true rfl) (fun h2 U2 => ?_)
  refine Wp.vc 400 [30] rfl ?_
  refine ⟨by omega, ?_⟩
  have key : ∀ (k : Int) (h3 : XH), k ≤ 10 → (0 ≤ k ∧ MU B m n h0 h3 S ∧ ∀ q : Int, 0 ≤ q → q < k → isRt1 T (sV S) i j a b q) → Wp (d + 3) 236 30 [some (.inr (.inr m)), some (.inl i), some (.inl j), some (.inl a), some (.inl b), some (.inl (a * ten T (sV S) i a j b)), some (.inl (b * ten T (sV S) j b i a)), some (.inl k)] [] h3 (fun o h' => ∃ v, o = .inl v ∧ v = some (.inl (xb (isRt T (sV S) i j a b))) ∧ MU B m n h0 h' S) := by
    refine loopUp (G := fun k h3 => Wp (d + 3) 236 30 [some (.inr (.inr m)), some (.inl i), some (.inl j), some (.inl a), some (.inl b), some (.inl (a * ten T (sV S) i a j b)), some (.inl (b * ten T (sV S) j b i a)), some (.inl k)] [] h3 (fun o h' => ∃ v, o = .inl v ∧ v = some (.inl (xb (isRt T (sV S) i j a b))) ∧ MU B m n h0 h' S)) 10 ?_ ?_
    · rintro k h3 ⟨k0, U3, hk⟩ k10 ih
      have m3 := mul_rg (show 0 ≤ k ∧ k ≤ 9 by omega) (tr i k j b i0 j0)
      have m4 := mul_rg (show 0 ≤ k ∧ k ≤ 9 by omega) (tr j k i a j0 i0)
      have bad : ∀ h4, MU B m n h0 h4 S → ¬ isRt1 T (sV S) i j a b k → Wp (d + 3) 236 72 [some (.inr (.inr m)), some (.inl i), some (.inl j), some (.inl a), some (.inl b), some (.inl (a * ten T (sV S) i a j b)), some (.inl (b * ten T (sV S) j b i a)), some (.inl k)] [] h4 (fun o h' => ∃ v, o = .inl v ∧ v = some (.inl (xb (isRt T (sV S) i j a b))) ∧ MU B m n h0 h' S) := by
        intro h4 U4 hn
        rw [xb_neg (fun w => hn (w k k0 k10))]
        refine Wp.vc 400 [] rfl ?_
        exact ⟨⟨by decide, by decide⟩, _, rfl, rfl, U4⟩
      refine Wp.vc 400 [30, 72] rfl ?_
      refine ⟨fun w => absurd w (by omega), fun _ => ?_⟩
      refine U3.tenK eT i0 j0 (show 0 ≤ k ∧ k ≤ 9 by omega) b0 rfl (Nat.le_of_ble_eq_true rfl) (fun h4 U4 => ?_)
      refine Wp.vc 400 [30, 72] rfl ?_
      refine ⟨by omega, fun c1 => bad h4 U4 (fun w => ?_), fun c1 => ?_⟩
      · have := w.1
        have c1 : a * ten T (sV S) i a j b < k * ten T (sV S) i k j b := c1
        omega
      · have c1 : ¬ a * ten T (sV S) i a j b < k * ten T (sV S) i k j b := c1
        refine U4.tenK eT j0 i0 (show 0 ≤ k ∧ k ≤ 9 by omega) a0 rfl (Nat.le_of_ble_eq_true rfl) (fun h5 U5 => ?_)
        refine Wp.vc 400 [30, 72] rfl ?_
        refine ⟨by omega, fun c2 => ⟨by omega, ih h5 ⟨by omega, U5, fun q q0 q1 => ?_⟩⟩, fun c2 => bad h5 U5 (fun w => c2 w.2)⟩
        by_cases c : q = k
        · rw [c]
          exact ⟨by omega, c2⟩
        · exact hk q q0 (by omega)
    · rintro h3 ⟨k0, U3, hk⟩
      rw [xb_pos (show isRt T (sV S) i j a b from hk)]
      refine Wp.vc 400 [30, 72] rfl ?_
      exact ⟨fun _ => ⟨⟨by decide, by decide⟩, _, rfl, rfl, U3⟩, fun w => absurd (Int.le_refl _) w⟩
  exact key 0 h2 (by decide) ⟨Int.le_refl _, U2, fun q q0 q1 => by omega⟩
/-- how many, the first -/
noncomputable def rst1 (P : Int → Prop) (s : Int × Int) (k : Int) : Int × Int := @ite _ (P k) (Classical.propDecidable _) (s.1 + 1, if s.1 = 0 then k else s.2) s
noncomputable def rstl (P : Int → Prop) (n : Int) : Int × Int := (nds n).foldl (rst1 P) (0, -2)
theorem rstl_succ {P : Int → Prop} {k : Int} (h : 0 ≤ k) : rstl P (k + 1) = rst1 P (rstl P k) k := by
  unfold rstl
  rw [nds_succ h, List.foldl_append]
  rfl
theorem rst1_y {P : Int → Prop} {s : Int × Int} {k : Int} (h : P k) : rst1 P s k = (s.1 + 1, if s.1 = 0 then k else s.2) := if_pos h
theorem rst1_n {P : Int → Prop} {s : Int × Int} {k : Int} (h : ¬ P k) : rst1 P s k = s := if_neg h
theorem rstl_rg {P : Int → Prop} : ∀ k : Nat, 0 ≤ (rstl P k).1 ∧ (rstl P k).1 ≤ k := by
  intro k
  induction k with
  | zero => exact ⟨Int.le_refl _, Int.le_refl _⟩
  | succ k ih =>
    rw [show ((k + 1 : Nat) : Int) = (k : Int) + 1 by omega, rstl_succ (by omega)]
    by_cases c : P k
    · rw [rst1_y c]
      show 0 ≤ (rstl P k).1 + 1 ∧ (rstl P k).1 + 1 ≤ _
      omega
    · rw [rst1_n c]
      omega
/-- the first stays the first -/
theorem rstl_first {P : Int → Prop} {j : Int} (j0 : 0 ≤ j) (hj : P j) (hn : ∀ q : Int, 0 ≤ q → q < j → ¬ P q) : ∀ k : Nat, (rstl P (j + 1 + k)).2 = j ∧ 1 ≤ (rstl P (j + 1 + k)).1 := by
  have h0 : ∀ k : Nat, (k : Int) ≤ j → rstl P k = (0, -2) := by
    intro k
    induction k with
    | zero => intro _; rfl
    | succ k ih =>
      intro hk
      rw [show ((k + 1 : Nat) : Int) = (k : Int) + 1 by omega, rstl_succ (by omega), rst1_n (hn k (by omega) (by omega)), ih (by omega)]
  have hj0 := h0 j.toNat (by omega)
  rw [show ((j.toNat : Nat) : Int) = j by omega] at hj0
  intro k
  induction k with
  | zero =>
    rw [show j + 1 + ((0 : Nat) : Int) = j + 1 by omega, rstl_succ j0, rst1_y hj, hj0]
    exact ⟨rfl, show (1 : Int) ≤ 0 + 1 by decide⟩
  | succ k ih =>
    rw [show j + 1 + ((k + 1 : Nat) : Int) = (j + 1 + k) + 1 by omega, rstl_succ (by omega)]
    by_cases c : P (j + 1 + k)
    · rw [rst1_y c]
      refine ⟨?_, show 1 ≤ (rstl P (j + 1 + k)).1 + 1 by omega⟩
      show (if (rstl P (j + 1 + k)).1 = 0 then _ else (rstl P (j + 1 + k)).2) = j
      rw [if_neg (by omega)]
      exact ih.1
    · rw [rst1_n c]
      exact ih
theorem rstl_none {P : Int → Prop} : ∀ k : Nat, (∀ q : Int, 0 ≤ q → q < k → ¬ P q) → rstl P k = (0, -2) := by
  intro k
  induction k with
  | zero => intro _; rfl
  | succ k ih =>
    intro hn
    rw [show ((k + 1 : Nat) : Int) = (k : Int) + 1 by omega, rstl_succ (by omega), rst1_n (hn k (by omega) (by omega)), ih (fun q q0 q1 => hn q q0 (by omega))]
def isRk (T : XTw) (V : Int → Int) (i j k : Int) : Prop := isRt T V i j (k / 10) (k % 10)
noncomputable def on2 (S : XSt) (i j : Int) (f : XTw → Int × XSt) : Int × XSt := onH S i fun T => if (0 ≤ j ∧ j < tnh T) ∧ i ≠ j then f T else sNo S 1
theorem on2_no {S : XSt} {i j : Int} {f : XTw → Int × XSt} (h : ¬ (isHou S i ∧ isHou S j ∧ i ≠ j)) : on2 S i j f = sNo S 1 := by
  unfold on2
  by_cases hi : isHou S i
  · obtain ⟨T, e, i0⟩ := id hi
    rw [onH_yes e i0]
    exact if_neg (fun w => h ⟨hi, ⟨T, e, w.1⟩, w.2⟩)
  · exact onH_no hi
theorem on2_yes {S : XSt} {i j : Int} {f : XTw → Int × XSt} {T : XTw} (e : sT S = some T) (i0 : 0 ≤ i ∧ i < tnh T) (j0 : 0 ≤ j ∧ j < tnh T) (h : i ≠ j) : on2 S i j f = f T := by
  unfold on2
  rw [onH_yes e i0]
  exact if_pos ⟨j0, h⟩
noncomputable def opRests (S : XSt) (i j : Int) : Int × XSt := on2 S i j fun T => sOk S (rstl (isRk T (sV S) i j) 100).1
noncomputable def opRest (S : XSt) (i j : Int) : Int × XSt := on2 S i j fun T => sOk S (rstl (isRk T (sV S) i j) 100).2
theorem XU.seekRestsK {d M pc np : Nat} {ls : XL} {st rest : XS} {B s n i j : Int} {h0 h : XH} {S : XSt} {T : XTw} {Q : XO → XH → Prop} (U : XU B s n h0 h S) (eT : sT S = some T) (i0 : 0 ≤ i ∧ i < tnh T) (j0 : 0 ≤ j ∧ j < tnh T) (e : xstK M pc 0 st = some (np, some 0, 53, [.inr (.inr s), .inl i, .inl j], rest)) (hw : xwords rest ≤ 8) (k : ∀ h1, XU B s n h0 h1 S → xfl h1 s 20 = (rstl (isRk T (sV S) i j) 100).2 → Wp (d + 6) M np ls (.inl (rstl (isRk T (sV S) i j) 100).1 :: rest) h1 Q) : Wp (d + 6) M pc ls st h Q := by
  refine Wp.callR e hw ⟨true, U.ts⟩ (Q1 := fun v h' => v = some (.inl (rstl (isRk T (sV S) i j) 100).1) ∧ XU B s n h0 h' S ∧ xfl h' s 20 = (rstl (isRk T (sV S) i j) 100).2) ?_ (fun v h1 q => by
    obtain ⟨rfl, q1, q2⟩ := q
    exact k h1 q1 q2)
  have P := isRk T (sV S) i j
  have put : ∀ h1 z, XU B s n h0 h1 S → XU B s n h0 (xputf h1 s 20 z) S := fun h1 z U1 => U1.scr ((XFr.refl h1).putf (Or.inr (Or.inl ⟨rfl, rfl⟩))) rfl rfl
  have ts := U.ts
  refine WpM.of rfl (Wp.vc 400 [11] rfl ?_)
  refine ⟨isW ts rfl, ?_⟩
  have U1 := put h (-2) U
  have f20 : xfl (xputf h s 20 (-2)) s 20 = -2 := by rw [xfl_putf, if_pos ⟨rfl, rfl⟩]
  obtain ⟨g, hg⟩ : ∃ g, g = xputf h s 20 (-2) := ⟨_, rfl⟩
  rw [← hg] at U1 f20 ⊢
  clear hg U ts
  -- inner loop
  have inner : ∀ a : Int, (0 ≤ a ∧ a ≤ 9) → (∀ h2 l5, XU B s n h0 h2 S → xfl h2 s 20 = (rstl (isRk T (sV S) i j) (10 * (a + 1))).2 → Wp (d + 5) 53 11 [some (.inr (.inr s)), some (.inl i), some (.inl j), some (.inl (rstl (isRk T (sV S) i j) (10 * (a + 1))).1), some (.inl (a + 1)), l5] [] h2 (fun o h' => ∃ v, o = .inl v ∧ v = some (.inl (rstl (isRk T (sV S) i j) 100).1) ∧ XU B s n h0 h' S ∧ xfl h' s 20 = (rstl (isRk T (sV S) i j) 100).2)) → ∀ (b : Int) (h2 : XH), b ≤ 10 → (0 ≤ b ∧ XU B s n h0 h2 S ∧ xfl h2 s 20 = (rstl (isRk T (sV S) i j) (10 * a + b)).2) → Wp (d + 5) 53 21 [some (.inr (.inr s)), some (.inl i), some (.inl j), some (.inl (rstl (isRk T (sV S) i j) (10 * a + b)).1), some (.inl a), some (.inl b)] [] h2 (fun o h' => ∃ v, o = .inl v ∧ v = some (.inl (rstl (isRk T (sV S) i j) 100).1) ∧ XU B s n h0 h' S ∧ xfl h' s 20 = (rstl (isRk T (sV S) i j) 100).2) := by
    intro a a0 nxt
    refine loopUp (G := fun b h2 => Wp (d + 5) 53 21 [some (.inr (.inr s)), some (.inl i), some (.inl j), some (.inl (rstl (isRk T (sV S) i j) (10 * a + b)).1), some (.inl a), some (.inl b)] [] h2 (fun o h' => ∃ v, o = .inl v ∧ v = some (.inl (rstl (isRk T (sV S) i j) 100).1) ∧ XU B s n h0 h' S ∧ xfl h' s 20 = (rstl (isRk T (sV S) i j) 100).2)) 10 ?_ ?_
    · rintro b h2 ⟨b0, U2, f2⟩ b10 ih
      have ts := U2.ts
      have ir := x_isRest (d := d) U2 eT i0 j0 a0 (show 0 ≤ b ∧ b ≤ 9 by omega)
      have sc := rstl_succ (P := isRk T (sV S) i j) (k := 10 * a + b) (by omega)
      rw [show 10 * a + b + 1 = 10 * a + (b + 1) by omega] at sc
      rw [sc] at ih
      have rg := rstl_rg (P := isRk T (sV S) i j) (10 * a + b).toNat
      rw [show (((10 * a + b).toNat : Nat) : Int) = 10 * a + b by omega] at rg
      have ek : isRk T (sV S) i j (10 * a + b) = isRt T (sV S) i j a b := by
        unfold isRk
        rw [show (10 * a + b) / 10 = a by omega, show (10 * a + b) % 10 = b by omega]
      obtain ⟨r, hr⟩ : ∃ r, r = rstl (isRk T (sV S) i j) (10 * a + b) := ⟨_, rfl⟩
      rw [← hr] at ih f2 rg ⊢
      refine Wp.vc 400 [11, 21, 60] rfl ?_
      refine ⟨fun w => absurd w (by omega), fun _ => ?_⟩
      refine Wp.callE (j := 0) rfl (Nat.le_of_ble_eq_true rfl) ⟨true, ts⟩ ir ?_
      by_cases c : isRt T (sV S) i j a b
      · rw [rst1_y (show isRk T (sV S) i j (10 * a + b) from ek ▸ c)] at ih
        rw [xb_pos c]
        by_cases c2 : r.1 = 0
        · have ih := ih (xputf h2 s 20 (10 * a + b)) ⟨by omega, put _ _ U2, by rw [xfl_putf, if_pos ⟨rfl, rfl⟩]; exact (if_pos c2).symm⟩
          refine Wp.vc 400 [11, 21] rfl ?_
          refine ⟨fun _ => ⟨fun w => absurd c2 w, fun _ => ⟨by omega, by omega, isW ts rfl, by omega, by omega, ih⟩⟩, fun w => absurd (show ¬ (1 : Int) = 0 by decide) w⟩
        · have ih := ih h2 ⟨by omega, U2, f2.trans (if_neg c2).symm⟩
          refine Wp.vc 400 [11, 21] rfl ?_
          refine ⟨fun _ => ⟨fun _ => ⟨by omega, by omega, ih⟩, fun w => absurd c2 w⟩, fun w => absurd (show ¬ (1 : Int) = 0 by decide) w⟩
      · rw [rst1_n (show ¬ isRk T (sV S) i j (10 * a + b) from ek ▸ c)] at ih
        rw [xb_neg c]
        have ih := ih h2 ⟨by omega, U2, f2⟩
        refine Wp.vc 400 [11, 21, 60] rfl ?_
        exact ⟨fun w => absurd rfl w, fun _ => ⟨by omega, ih⟩⟩
    · rintro h2 ⟨b0, U2, f2⟩
      have := nxt h2 (some (.inl 10)) U2 (by rw [show 10 * (a + 1) = 10 * a + 10 by omega]; exact f2)
      rw [show 10 * (a + 1) = 10 * a + 10 by omega] at this
      refine Wp.vc 400 [11, 21] rfl ?_
      exact ⟨fun _ => ⟨by omega, this⟩, fun w => absurd (show (9 : Int) < 10 by decide) w⟩
  have outer : ∀ (a : Int) (h2 : XH), a ≤ 10 → (0 ≤ a ∧ XU B s n h0 h2 S ∧ xfl h2 s 20 = (rstl (isRk T (sV S) i j) (10 * a)).2) → ∀ l5, Wp (d + 5) 53 11 [some (.inr (.inr s)), some (.inl i), some (.inl j), some (.inl (rstl (isRk T (sV S) i j) (10 * a)).1), some (.inl a), l5] [] h2 (fun o h' => ∃ v, o = .inl v ∧ v = some (.inl (rstl (isRk T (sV S) i j) 100).1) ∧ XU B s n h0 h' S ∧ xfl h' s 20 = (rstl (isRk T (sV S) i j) 100).2) := by
    refine loopUp (G := fun a h2 => ∀ l5, Wp (d + 5) 53 11 [some (.inr (.inr s)), some (.inl i), some (.inl j), some (.inl (rstl (isRk T (sV S) i j) (10 * a)).1), some (.inl a), l5] [] h2 (fun o h' => ∃ v, o = .inl v ∧ v = some (.inl (rstl (isRk T (sV S) i j) 100).1) ∧ XU B s n h0 h' S ∧ xfl h' s 20 = (rstl (isRk T (sV S) i j) 100).2)) 10 ?_ ?_
    · rintro a h2 ⟨a0, U2, f2⟩ a10 ih l5
      have nn := inner a ⟨a0, by omega⟩ (fun h3 l5 U3 f3 => ih h3 ⟨by omega, U3, f3⟩ l5) 0 h2 (by decide) ⟨Int.le_refl _, U2, by rw [Int.add_zero]; exact f2⟩
      rw [Int.add_zero] at nn
      refine Wp.vc 400 [21] rfl ?_
      exact ⟨fun w => absurd w (by omega), fun _ => nn⟩
    · rintro h2 ⟨a0, U2, f2⟩ l5
      refine Wp.vc 400 [11, 21] rfl ?_
      exact ⟨fun _ => ⟨trivial, _, rfl, rfl, U2, f2⟩, fun w => absurd (show (9 : Int) < 10 by decide) w⟩
  exact outer 0 g (by decide) ⟨Int.le_refl _, U1, f20⟩ none
theorem x_opRests {d : Nat} {h : XH} {B s n i j : Int} {S : XSt} (R : Rx h B s S) (O : SOK n S) : WpM (d + 6) 52 [.inr (.inr s), .inl i, .inl j] h (XAn B s h (.inl (opRests S i j).1) (opRests S i j).2) := by
  refine WpM.of rfl (Wp.vc 400 [] rfl ?_)
  refine XU.anew R O rfl (Nat.zero_le _) (fun h1 U => ?_)
  have bad : opRests S i j = sNo S 1 → Wp (d + 6) 52 34 [some (.inr (.inr s)), some (.inl i), some (.inl j)] [] h1 (XAn B s h (.inl (opRests S i j).1) (opRests S i j).2) := by
    intro e
    rw [e]
    refine Wp.vc 400 [] rfl ?_
    exact U.no (k := 1) (by decide) rfl (fun _ => rfl) rfl
  refine Wp.vc 400 [] rfl ?_
  refine XU.hou (d := d + 4) U rfl (Nat.zero_le _) (fun T e i0 => ?_) (fun hp => ?_)
  · refine Wp.vc 400 [34] rfl ?_
    first | refine ⟨fun _ => ?_, fun c => absurd (by decide) c⟩ | refine ⟨fun c => absurd c (by decide), fun _ => ?_⟩
    refine XU.hou (d := d + 4) U rfl (Nat.zero_le _) (fun T' e' j0 => ?_) (fun hp => ?_)
    · rw [e] at e'
      cases e'
      refine Wp.vc 400 [34] rfl ?_
      first | refine ⟨fun _ => ?_, fun c => absurd (by decide) c⟩ | refine ⟨fun c => absurd c (by decide), fun _ => ?_⟩
      refine ⟨fun c => bad (on2_no (fun w => w.2.2 c)), fun ne => ?_⟩
      rw [show opRests S i j = _ from on2_yes e i0 j0 ne]
      refine U.seekRestsK e i0 j0 rfl (Nat.le_of_ble_eq_true rfl) (fun h2 U2 _ => ?_)
      refine Wp.vc 400 [] rfl ?_
      exact ⟨trivial, U2.ret⟩
    · refine Wp.vc 400 [34] rfl ?_
      exact ⟨fun _ => bad (on2_no (fun w => hp w.2.1)), fun w => absurd rfl w⟩
  · refine Wp.vc 400 [34] rfl ?_
    exact ⟨fun _ => bad (on2_no (fun w => hp w.1)), fun w => absurd rfl w⟩
theorem x_opRest {d : Nat} {h : XH} {B s n i j : Int} {S : XSt} (R : Rx h B s S) (O : SOK n S) : WpM (d + 6) 55 [.inr (.inr s), .inl i, .inl j] h (XAn B s h (.inl (opRest S i j).1) (opRest S i j).2) := by
  refine WpM.of rfl (Wp.vc 400 [] rfl ?_)
  refine XU.anew R O rfl (Nat.zero_le _) (fun h1 U => ?_)
  have bad : opRest S i j = sNo S 1 → Wp (d + 6) 55 25 [some (.inr (.inr s)), some (.inl i), some (.inl j)] [] h1 (XAn B s h (.inl (opRest S i j).1) (opRest S i j).2) := by
    intro e
    rw [e]
    refine Wp.vc 400 [] rfl ?_
    exact U.no (k := 1) (by decide) rfl (fun _ => rfl) rfl
  refine Wp.vc 400 [] rfl ?_
  refine XU.hou (d := d + 4) U rfl (Nat.zero_le _) (fun T e i0 => ?_) (fun hp => ?_)
  · refine Wp.vc 400 [25] rfl ?_
    first | refine ⟨fun _ => ?_, fun c => absurd (by decide) c⟩ | refine ⟨fun c => absurd c (by decide), fun _ => ?_⟩
    refine XU.hou (d := d + 4) U rfl (Nat.zero_le _) (fun T' e' j0 => ?_) (fun hp => ?_)
    · rw [e] at e'
      cases e'
      refine Wp.vc 400 [25] rfl ?_
      first | refine ⟨fun _ => ?_, fun c => absurd (by decide) c⟩ | refine ⟨fun c => absurd c (by decide), fun _ => ?_⟩
      refine ⟨fun ne => ?_, fun c => bad (on2_no (fun w => c w.2.2))⟩
      rw [show opRest S i j = _ from on2_yes e i0 j0 ne]
      refine U.seekRestsK e i0 j0 rfl (Nat.le_of_ble_eq_true rfl) (fun h2 U2 f2 => ?_)
      refine Wp.vc 400 [] rfl ?_
      rw [f2]
      exact ⟨isF U2.ts rfl, trivial, U2.ret⟩
    · refine Wp.vc 400 [25] rfl ?_
      exact ⟨fun _ => bad (on2_no (fun w => hp w.2.1)), fun w => absurd rfl w⟩
  · refine Wp.vc 400 [25] rfl ?_
    exact ⟨fun _ => bad (on2_no (fun w => hp w.1)), fun w => absurd rfl w⟩
theorem m_opRests {d : Nat} {h : XH} {B m n i j : Int} {S : XSt} (R : Rm h B m S) (O : SOK n S) : WpM (d + 4) 235 [.inr (.inr m), .inl i, .inl j] h (MAn B m h (.inl (opRests S i j).1) (opRests S i j).2) := by
  refine WpM.of rfl (MU.start R O rfl (fun g U => ?_))
  have bad : opRests S i j = sNo S 1 → Wp (d + 4) 235 26 [some (.inr (.inr m)), some (.inl i), some (.inl j), none, none] [] g (MAn B m h (.inl (opRests S i j).1) (opRests S i j).2) := by
    intro e
    rw [e]
    refine Wp.vc 400 [] rfl ?_
    exact U.ref (k := 1) rfl (fun _ => rfl) rfl
  refine Wp.vc 400 [] rfl ?_
  refine U.hou rfl (Nat.zero_le _) (fun T e i0 => ?_) (fun hp => ?_)
  · refine Wp.vc 400 [26] rfl ?_
    first | refine ⟨fun _ => ?_, fun c => absurd (by decide) c⟩ | refine ⟨fun c => absurd c (by decide), fun _ => ?_⟩
    refine U.hou rfl (Nat.zero_le _) (fun T' e' j0 => ?_) (fun hp => ?_)
    · rw [e] at e'
      cases e'
      refine Wp.vc 400 [26, 37] rfl ?_
      first | refine ⟨fun _ => ?_, fun c => absurd (by decide) c⟩ | refine ⟨fun c => absurd c (by decide), fun _ => ?_⟩
      refine ⟨fun ne => ?_, fun c => bad (on2_no (fun w => c w.2.2))⟩
      rw [show opRests S i j = _ from on2_yes e i0 j0 ne]
      have key : ∀ (k : Int) (h2 : XH), k ≤ 100 → (0 ≤ k ∧ MU B m n h h2 S) → Wp (d + 4) 235 37 [some (.inr (.inr m)), some (.inl i), some (.inl j), some (.inl (rstl (isRk T (sV S) i j) k).1), some (.inl k)] [] h2 (MAn B m h (.inl (sOk S (rstl (isRk T (sV S) i j) 100).1).1) (sOk S (rstl (isRk T (sV S) i j) 100).1).2) := by
        refine loopUp (G := fun k h2 => Wp (d + 4) 235 37 [some (.inr (.inr m)), some (.inl i), some (.inl j), some (.inl (rstl (isRk T (sV S) i j) k).1), some (.inl k)] [] h2 (MAn B m h (.inl (sOk S (rstl (isRk T (sV S) i j) 100).1).1) (sOk S (rstl (isRk T (sV S) i j) 100).1).2)) 100 ?_ ?_
        · rintro k h2 ⟨k0, U2⟩ hk ih
          have ed : k.tdiv 10 = k / 10 := Int.tdiv_eq_ediv_of_nonneg k0
          have em : k.tmod 10 = k % 10 := Int.tmod_eq_emod_of_nonneg k0
          have rg := rstl_rg (P := isRk T (sV S) i j) k.toNat
          rw [show ((k.toNat : Nat) : Int) = k by omega] at rg
          rw [rstl_succ k0] at ih
          refine Wp.vc 400 [37] rfl ?_
          rw [ed, em]
          refine ⟨fun w => absurd w (by omega), fun _ => ⟨⟨by decide, Or.inl k0⟩, ⟨by decide, Or.inl k0⟩, ?_⟩⟩
          refine U2.isRestK e i0 j0 (show 0 ≤ k / 10 ∧ k / 10 ≤ 9 by omega) (show 0 ≤ k % 10 ∧ k % 10 ≤ 9 by omega) rfl (Nat.le_of_ble_eq_true rfl) (fun h3 U3 => ?_)
          have ih := ih h3 ⟨by omega, U3⟩
          by_cases c : isRt T (sV S) i j (k / 10) (k % 10)
          · rw [rst1_y (show isRk T (sV S) i j k from c)] at ih
            rw [xb_pos c]
            refine Wp.vc 400 [37] rfl ?_
            exact ⟨fun w => absurd w (by decide), fun _ => ⟨by omega, by omega, ih⟩⟩
          · rw [rst1_n (show ¬ isRk T (sV S) i j k from c)] at ih
            rw [xb_neg c]
            refine Wp.vc 400 [37] rfl ?_
            rw [Int.add_zero]
            exact ⟨fun _ => ⟨by omega, by omega, ih⟩, fun w => absurd rfl w⟩
        · rintro h2 ⟨k0, U2⟩
          refine Wp.vc 400 [37] rfl ?_
          refine ⟨fun _ => ?_, fun w => absurd (Int.le_refl _) w⟩
          exact U2.good rfl (fun _ => rfl) rfl
      exact key 0 g (by decide) ⟨Int.le_refl _, U⟩
    · refine Wp.vc 400 [26] rfl ?_
      exact ⟨fun _ => bad (on2_no (fun w => hp w.2.1)), fun w => absurd rfl w⟩
  · refine Wp.vc 400 [26] rfl ?_
    exact ⟨fun _ => bad (on2_no (fun w => hp w.1)), fun w => absurd rfl w⟩
theorem m_opRest {d : Nat} {h : XH} {B m n i j : Int} {S : XSt} (R : Rm h B m S) (O : SOK n S) : WpM (d + 4) 237 [.inr (.inr m), .inl i, .inl j] h (MAn B m h (.inl (opRest S i j).1) (opRest S i j).2) := by
  refine WpM.of rfl (MU.start R O rfl (fun g U => ?_))
  have bad : opRest S i j = sNo S 1 → Wp (d + 4) 237 26 [some (.inr (.inr m)), some (.inl i), some (.inl j), none] [] g (MAn B m h (.inl (opRest S i j).1) (opRest S i j).2) := by
    intro e
    rw [e]
    refine Wp.vc 400 [] rfl ?_
    exact U.ref (k := 1) rfl (fun _ => rfl) rfl
  refine Wp.vc 400 [] rfl ?_
  refine U.hou rfl (Nat.zero_le _) (fun T e i0 => ?_) (fun hp => ?_)
  · refine Wp.vc 400 [26] rfl ?_
    first | refine ⟨fun _ => ?_, fun c => absurd (by decide) c⟩ | refine ⟨fun c => absurd c (by decide), fun _ => ?_⟩
    refine U.hou rfl (Nat.zero_le _) (fun T' e' j0 => ?_) (fun hp => ?_)
    · rw [e] at e'
      cases e'
      refine Wp.vc 400 [26, 34] rfl ?_
      first | refine ⟨fun _ => ?_, fun c => absurd (by decide) c⟩ | refine ⟨fun c => absurd c (by decide), fun _ => ?_⟩
      refine ⟨fun ne => ?_, fun c => bad (on2_no (fun w => c w.2.2))⟩
      rw [show opRest S i j = _ from on2_yes e i0 j0 ne]
      have key : ∀ (k : Int) (h2 : XH), k ≤ 100 → (0 ≤ k ∧ MU B m n h h2 S ∧ ∀ q : Int, 0 ≤ q → q < k → ¬ isRk T (sV S) i j q) → Wp (d + 4) 237 34 [some (.inr (.inr m)), some (.inl i), some (.inl j), some (.inl k)] [] h2 (MAn B m h (.inl (sOk S (rstl (isRk T (sV S) i j) 100).2).1) (sOk S (rstl (isRk T (sV S) i j) 100).2).2) := by
        refine loopUp (G := fun k h2 => Wp (d + 4) 237 34 [some (.inr (.inr m)), some (.inl i), some (.inl j), some (.inl k)] [] h2 (MAn B m h (.inl (sOk S (rstl (isRk T (sV S) i j) 100).2).1) (sOk S (rstl (isRk T (sV S) i j) 100).2).2)) 100 ?_ ?_
        · rintro k h2 ⟨k0, U2, hn⟩ hk ih
          have ed : k.tdiv 10 = k / 10 := Int.tdiv_eq_ediv_of_nonneg k0
          have em : k.tmod 10 = k % 10 := Int.tmod_eq_emod_of_nonneg k0
          refine Wp.vc 400 [34] rfl ?_
          rw [ed, em]
          refine ⟨fun w => absurd w (by omega), fun _ => ⟨⟨by decide, Or.inl k0⟩, ⟨by decide, Or.inl k0⟩, ?_⟩⟩
          refine U2.isRestK e i0 j0 (show 0 ≤ k / 10 ∧ k / 10 ≤ 9 by omega) (show 0 ≤ k % 10 ∧ k % 10 ≤ 9 by omega) rfl (Nat.le_of_ble_eq_true rfl) (fun h3 U3 => ?_)
          by_cases c : isRt T (sV S) i j (k / 10) (k % 10)
          · have ff := (rstl_first (P := isRk T (sV S) i j) k0 c hn (99 - k).toNat).1
            rw [show k + 1 + (((99 - k).toNat : Nat) : Int) = 100 by omega] at ff
            rw [xb_pos c, ff]
            refine Wp.vc 400 [34] rfl ?_
            refine ⟨fun w => absurd w (by decide), fun _ => ?_⟩
            exact U3.good rfl (fun _ => rfl) rfl
          · rw [xb_neg c]
            refine Wp.vc 400 [34] rfl ?_
            refine ⟨fun _ => ⟨by omega, ih h3 ⟨by omega, U3, fun q q0 q1 => ?_⟩⟩, fun w => absurd rfl w⟩
            by_cases e : q = k
            · rw [e]; exact c
            · exact hn q q0 (by omega)
        · rintro h2 ⟨k0, U2, hn⟩
          rw [show rstl (isRk T (sV S) i j) 100 = (0, -2) from rstl_none 100 hn]
          refine Wp.vc 400 [34] rfl ?_
          refine ⟨fun _ => ?_, fun w => absurd (Int.le_refl _) w⟩
          exact U2.good (k := -2) rfl (fun _ => rfl) rfl
      exact key 0 g (by decide) ⟨Int.le_refl _, U, fun q q0 q1 => by omega⟩
    · refine Wp.vc 400 [26] rfl ?_
      exact ⟨fun _ => bad (on2_no (fun w => hp w.2.1)), fun w => absurd rfl w⟩
  · refine Wp.vc 400 [26] rfl ?_
    exact ⟨fun _ => bad (on2_no (fun w => hp w.1)), fun w => absurd rfl w⟩
