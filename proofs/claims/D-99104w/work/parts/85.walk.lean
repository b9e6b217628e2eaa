/-! WALKS, 26: farthest, homeIn: WrongRoom; laws of ways -/
set_option maxRecDepth 100000
set_option maxHeartbeats 4000000
def xfar1 (f : Int → Int) (s : Int × Int) (g : Int) : Int × Int := if f g ≤ s.2 then s else (g, f g)
def xfarl (f : Int → Int) (n : Int) (s : Int × Int) : Int × Int := (nds n).foldl (xfar1 f) s
theorem xfarl_succ {f : Int → Int} {k : Int} {s : Int × Int} (h : 0 ≤ k) : xfarl f (k + 1) s = xfar1 f (xfarl f k s) k := by
  unfold xfarl
  rw [nds_succ h, List.foldl_append]
  rfl
def opFarthest (S : XSt) (i m : Int) : Int × XSt := onH S i fun T => if 0 ≤ m ∧ m ≤ 1439 then sOk S (xfarl (fun g => wmin T (sV S) true i g m) (tnh T) (-2, -1)).1 else sNo S 2
def opHomeIn (S : XSt) (p : Int) : Int × XSt := onP S p fun T => sOk S (wmin T (sV S) true (sV S (8 + p)) (thv T 7 p) (sV S (12 + p)))
theorem wmin_rg {T : XTw} {V : Int → Int} {b : Bool} {i j m : Int} (TO : TOK T) (i0 : 0 ≤ i ∧ i < tnh T) (m0 : 0 ≤ m) : -2 ≤ wmin T V b i j m ∧ wmin T V b i j m ≤ 20000 := by
  have rg := fun a => wbest_rg (a := a) (b := b) (j := j) TO i0 m0 (V := V)
  unfold wmin
  cases ew : wbest T V b i j m with
  | none => exact ⟨Int.le_refl _, show (-2 : Int) ≤ 20000 by decide⟩
  | some a =>
    have := rg a ew
    show -2 ≤ a.1 - m ∧ a.1 - m ≤ 20000
    omega
theorem x_opFarthest {d : Nat} {h : XH} {B s n i m : Int} {S : XSt} (R : Rx h B s S) (O : SOK n S) : WpM (d + 16) 28 [.inr (.inr s), .inl i, .inl m] h (XAn B s h (.inl (opFarthest S i m).1) (opFarthest S i m).2) := by
  refine WpM.of rfl (Wp.vc 400 [] rfl ?_)
  refine XU.anew R O rfl (Nat.zero_le _) (fun h1 U => ?_)
  refine Wp.vc 400 [] rfl ?_
  have why : ∀ T, sT S = some T → (0 ≤ i ∧ i < tnh T) → (0 ≤ m ∧ m ≤ 1439) → opFarthest S i m = sOk S (xfarl (fun g => wmin T (sV S) true i g m) (tnh T) (-2, -1)).1 := fun T e i0 m0 => (onH_yes e i0).trans (if_pos m0)
  have bad : ∀ k : Int, k ≠ 4 → k ≠ 0 → opFarthest S i m = sNo S k → Wp (d + 16) 28 14 [some (.inr (.inr s)), some (.inl i), some (.inl m), none, none, none, none, none] [.inl k] h1 (XAn B s h (.inl (opFarthest S i m).1) (opFarthest S i m).2) := by
    intro k k4 k0 e
    rw [e]
    refine Wp.vc 400 [] rfl ?_
    refine ⟨fun w => absurd w k0, fun _ => ?_⟩
    exact U.no k4 rfl (fun _ => rfl) rfl
  refine XU.hou (d := d + 14) U rfl (Nat.le_of_ble_eq_true rfl) (fun T e i0 => ?_) (fun hp => ?_)
  · have mw := x_minuteWhy (d := d + 14) (mm := m) U.1 True
    rw [xb_pos trivial, if_pos trivial] at mw
    refine Wp.vc 400 [] rfl ?_
    refine Wp.callE (j := 0) rfl (Nat.le_of_ble_eq_true rfl) ⟨true, U.ts⟩ mw ?_
    by_cases m0 : 0 ≤ m ∧ m ≤ 1439
    · rw [if_pos m0, why T e i0 m0]
      have key : ∀ (k : Int) (h2 : XH), k ≤ tnh T → (0 ≤ k ∧ XU B s n h h2 (sSet S 0 (-1))) → ∀ l7, Wp (d + 16) 28 35 [some (.inr (.inr s)), some (.inl i), some (.inl m), some (.inl 0), some (.inl (xfarl (fun g => wmin T (sV S) true i g m) k (-2, -1)).1), some (.inl (xfarl (fun g => wmin T (sV S) true i g m) k (-2, -1)).2), some (.inl k), l7] [] h2 (XAn B s h (.inl (xfarl (fun g => wmin T (sV S) true i g m) (tnh T) (-2, -1)).1) (sSet S 0 (-1))) := by
        refine loopUp (G := fun k h2 => ∀ l7, Wp (d + 16) 28 35 [some (.inr (.inr s)), some (.inl i), some (.inl m), some (.inl 0), some (.inl (xfarl (fun g => wmin T (sV S) true i g m) k (-2, -1)).1), some (.inl (xfarl (fun g => wmin T (sV S) true i g m) k (-2, -1)).2), some (.inl k), l7] [] h2 (XAn B s h (.inl (xfarl (fun g => wmin T (sV S) true i g m) (tnh T) (-2, -1)).1) (sSet S 0 (-1)))) (tnh T) ?_ ?_
        · rintro k h2 ⟨k0, U2⟩ hk ih l7
          obtain ⟨-, -, ne, TX, -⟩ := U2.rooms e
          have TO := (U2.ok e).1
          have hn := TO.2.2.1
          have ct := TX.1.2.2
          have e111 : xfl h2 (xfl h2 s 3) 111 = tnh T := TX.2.2.1.2.2.1
          have f14 : xfl h2 s 14 = s + 21 := U2.lay.2.2.2.2.2.2.2.2.2.1.1
          clear TX TO
          refine Wp.vc 400 [35] rfl ?_
          rw [e111, f14]
          refine ⟨isF U2.ts rfl, isF ct rfl, fun w => absurd w (by omega), fun _ => ⟨isF U2.ts rfl, ?_⟩⟩
          refine U2.minsK e i0 (j := k) (b := true) ⟨m0.1, by omega⟩ rfl rfl (Nat.le_of_ble_eq_true rfl) (fun h3 U3 _ => ?_)
          have ih := ih h3 ⟨by omega, U3⟩
          rw [xfarl_succ k0] at ih
          unfold xfar1 at ih
          dsimp only at ih
          show Wp _ _ _ _ (.inl (wmin T (sV S) true i k m) :: _) _ _
          refine Wp.vc 400 [35] rfl ?_
          refine ⟨fun c => ?_, fun c => ?_⟩
          · rw [if_neg (by have : (xfarl (fun g => wmin T (sV S) true i g m) k (-2, -1)).2 < wmin T (sV S) true i k m := c; omega)] at ih
            exact ⟨⟨by omega, by omega⟩, ih _⟩
          · rw [if_pos (by have : ¬ (xfarl (fun g => wmin T (sV S) true i g m) k (-2, -1)).2 < wmin T (sV S) true i k m := c; omega)] at ih
            exact ⟨⟨by omega, by omega⟩, ih _⟩
        · rintro h2 ⟨k0, U2⟩ l7
          obtain ⟨-, -, ne, TX, -⟩ := U2.rooms e
          have ct := TX.1.2.2
          have e111 : xfl h2 (xfl h2 s 3) 111 = tnh T := TX.2.2.1.2.2.1
          clear TX
          refine Wp.vc 400 [35] rfl ?_
          rw [e111]
          exact ⟨isF U2.ts rfl, isF ct rfl, fun _ => ⟨trivial, U2.ret⟩, fun w => absurd (Int.le_refl _) w⟩
      refine Wp.vc 400 [35] rfl ?_
      exact ⟨fun _ => key 0 h1 (by have := (U.ok e).1.2.2.1; omega) ⟨Int.le_refl _, U⟩ none, fun w => absurd rfl w⟩
    · rw [if_neg m0]
      exact bad 2 (by decide) (by decide) ((onH_yes e i0).trans (if_neg m0))
  · have mw := x_minuteWhy (d := d + 14) (mm := m) U.1 False
    rw [xb_neg not_false, if_neg not_false] at mw
    refine Wp.vc 400 [] rfl ?_
    refine Wp.callE (j := 0) rfl (Nat.le_of_ble_eq_true rfl) ⟨true, U.ts⟩ mw ?_
    exact bad 1 (by decide) (by decide) (onH_no hp)
theorem x_opHomeIn {d : Nat} {h : XH} {B s n p : Int} {S : XSt} (R : Rx h B s S) (O : SOK n S) : WpM (d + 16) 29 [.inr (.inr s), .inl p] h (XAn B s h (.inl (opHomeIn S p).1) (opHomeIn S p).2) := by
  refine WpM.of rfl (Wp.vc 400 [] rfl ?_)
  refine XU.anew R O rfl (Nat.zero_le _) (fun h1 U => ?_)
  refine Wp.vc 400 [] rfl ?_
  refine XU.per (d := d + 14) U rfl (Nat.le_of_ble_eq_true rfl) (fun T e p0 => ?_) (fun hp => ?_)
  · rw [show opHomeIn S p = _ from onP_yes e p0]
    obtain ⟨RT, hv, ne, TX, SN⟩ := U.rooms e
    obtain ⟨TO, VO⟩ := U.ok e
    have hpm := TO.2.2.2.1
    have PX := TX.2.2.2.2.1 p p0.1 p0.2
    have ct := TX.1.2.2
    have cp := TX.2.1.2.1.2.2
    have sq := SN.2.2.2 p p0.1 p0.2
    have vq := VO.2.2.2.2 p p0.1 p0.2
    have n64 : n ≤ 64 := U.2.1.2.2.2.2.2.2
    have f9 := U.f9
    have f14 : xfl h1 s 14 = s + 21 := U.lay.2.2.2.2.2.2.2.2.2.1.1
    have tR := RT.1
    have ts := U.ts
    have ca := PX.1.2.2
    have f41 := tR.2.2.2.2.2.2.1
    have f42 := tR.2.2.2.2.2.2.2
    clear TX SN hv TO VO
    refine Wp.vc 400 [] rfl ?_
    rw [f9, f14, f41, f42, sq.1, sq.2, PX.2.1]
    refine ⟨fun w => absurd w (by decide), fun _ => ⟨isF ts rfl, isF ts rfl, isF tR.2.1 rfl, isA tR.2.2.2.1 p0.1 (by omega), isF ts rfl, isF ct rfl, isR cp (by decide) p0.1 (by omega), isF ca rfl, isF ts rfl, isF tR.2.1 rfl, isA tR.2.2.2.2.1 p0.1 (by omega), ?_⟩⟩
    refine U.minsK e (b := true) vq.1 ⟨vq.2.1, ?_⟩ rfl rfl (Nat.le_of_ble_eq_true rfl) (fun h2 U2 _ => ?_)
    · have := vq.2.2
      omega
    · refine Wp.vc 400 [] rfl ?_
      exact ⟨trivial, U2.ret⟩
  · rw [show opHomeIn S p = _ from onP_no hp]
    refine Wp.vc 400 [] rfl ?_
    first | refine ⟨fun _ => ?_, fun c => absurd (by decide) c⟩ | refine ⟨fun c => absurd c (by decide), fun _ => ?_⟩
    exact U.no (k := 1) (by decide) rfl (fun _ => rfl) rfl
/-- laws: a minute of another day -/
theorem wys_shift {T : XTw} {V : Int → Int} {b : Bool} {g c : Int} : ∀ (f : Nat) (u a t : Int), wys T V b g f u a (t + 1440 * c) = (wys T V b g f u a t).map fun w => (w.1 + 1440 * c, w.2) := by
  intro f
  induction f with
  | zero => intro u a t; rfl
  | succ f ih =>
    intro u a t
    by_cases e : a = g
    · subst e
      rw [wys_at, wys_at]
      rfl
    · rw [wys_st e, wys_st e, List.map_map]
      have : (nds (tnh T)).flatMap (wkid T V b g f u a (t + 1440 * c)) = ((nds (tnh T)).flatMap (wkid T V b g f u a t)).map fun w => (w.1 + 1440 * c, w.2) := by
        rw [List.map_flatMap]
        congr 1
        funext j
        unfold wkid
        rw [wst_shift]
        split
        · rfl
        · cases wst T V b a j t with
          | none => rfl
          | some v => exact ih _ j v
      rw [this, List.map_map]
      rfl
theorem wbO_shift {c : Int} : ∀ (l : List (Int × List Int)) (acc : Option (Int × List Int)), (l.map fun w => (w.1 + c, w.2)).foldl wbO (acc.map fun w => (w.1 + c, w.2)) = (l.foldl wbO acc).map fun w => (w.1 + c, w.2) := by
  intro l
  induction l with
  | nil => intro acc; rfl
  | cons w l ih =>
    intro acc
    show (l.map fun w => (w.1 + c, w.2)).foldl wbO (wbO (acc.map fun w => (w.1 + c, w.2)) (w.1 + c, w.2)) = (l.foldl wbO (wbO acc w)).map _
    rw [← ih]
    congr 1
    cases acc with
    | none => rfl
    | some a =>
      show (if w.1 + c < a.1 + c then _ else _) = Option.map _ (if w.1 < a.1 then some w else some a)
      by_cases q : w.1 < a.1
      · rw [if_pos q, if_pos (by omega)]
        rfl
      · rw [if_neg q, if_neg (by omega)]
        rfl
theorem wmin_shift {T : XTw} {V : Int → Int} {b : Bool} {i j m c : Int} : wmin T V b i j (m + 1440 * c) = wmin T V b i j m := by
  have : wbest T V b i j (m + 1440 * c) = (wbest T V b i j m).map fun w => (w.1 + 1440 * c, w.2) := by
    unfold wbest
    rw [wys_shift]
    exact wbO_shift (c := 1440 * c) _ none
  unfold wmin
  rw [this]
  cases wbest T V b i j m with
  | none => rfl
  | some a => show a.1 + 1440 * c - (m + 1440 * c) = a.1 - m; omega
theorem wmin_day {T : XTw} {V : Int → Int} {b : Bool} {i j m : Int} : wmin T V b i j (m % 1440) = wmin T V b i j m := by
  have := wmin_shift (T := T) (V := V) (b := b) (i := i) (j := j) (m := m % 1440) (c := m / 1440)
  rw [← this]
  congr 1
  omega
theorem wmin_self {T : XTw} {V : Int → Int} {b : Bool} {i m : Int} : wmin T V b i i m = 0 := by
  unfold wmin wbest
  rw [wys_at]
  show m - m = 0
  omega
theorem wmin_far {T : XTw} {V : Int → Int} {b : Bool} {i j m : Int} (TO : TOK T) (i0 : 0 ≤ i ∧ i < tnh T) (m0 : 0 ≤ m) (h : i ≠ j) : wmin T V b i j m = -2 ∨ 1 ≤ wmin T V b i j m := by
  have hn := TO.2.2.1
  unfold wmin
  cases ew : wbest T V b i j m with
  | none => exact Or.inl rfl
  | some a =>
    refine Or.inr ?_
    show 1 ≤ a.1 - m
    rcases wbO_mem _ _ _ ew with q | q
    · cases q
    · rw [wys_st h, List.mem_map] at q
      obtain ⟨w', h1, rfl⟩ := q
      rw [List.mem_flatMap] at h1
      obtain ⟨k, j1, j2⟩ := h1
      have j1 := nds_mem.mp j1
      unfold wkid at j2
      split at j2
      · cases j2
      · split at j2
        · cases j2
        · next v hv =>
          have hr := wst_rg TO ⟨i0.1, by omega⟩ ⟨j1.1, by omega⟩ m0 hv
          have := wys_rg TO _ _ k v ⟨j1.1, by omega⟩ (by omega) w' j2
          show 1 ≤ w'.1 - m
          omega
/-- the farthest, as the model begins -/
theorem xfarl_eq {f : Int → Int} {i n : Int} (h0 : f i = 0) (h1 : ∀ g : Int, 0 ≤ g → g < n → g ≠ i → f g = -2 ∨ 1 ≤ f g) (i0 : 0 ≤ i ∧ i < n) : (xfarl f n (i, 0)).1 = (xfarl f n (-2, -1)).1 := by
  have key : ∀ k : Nat, (k : Int) ≤ n → xfarl f k (i, 0) = xfarl f k (-2, -1) ∨ (xfarl f k (i, 0) = (i, 0) ∧ xfarl f k (-2, -1) = (-2, -1) ∧ (k : Int) ≤ i) := by
    intro k
    induction k with
    | zero => intro _; exact Or.inr ⟨rfl, rfl, i0.1⟩
    | succ k ih =>
      intro hk
      have e : ((k + 1 : Nat) : Int) = (k : Int) + 1 := by omega
      rw [e, xfarl_succ (by omega), xfarl_succ (by omega)]
      rcases ih (by omega) with q | ⟨q1, q2, q3⟩
      · exact Or.inl (by rw [q])
      · rw [q1, q2]
        unfold xfar1
        by_cases c : (k : Int) = i
        · rw [c, h0]
          exact Or.inl rfl
        · rcases h1 k (by omega) (by omega) c with w | w
          · rw [w]
            exact Or.inr ⟨rfl, rfl, by omega⟩
          · rw [if_neg (by show ¬ f k ≤ 0; omega), if_neg (by show ¬ f k ≤ -1; omega)]
            exact Or.inl rfl
  rcases key n.toNat (by omega) with q | ⟨-, -, q⟩
  · rw [show ((n.toNat : Nat) : Int) = n by omega] at q
    rw [q]
  · omega
