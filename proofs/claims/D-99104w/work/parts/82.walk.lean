/-! WALKS, 23: a step from house to house -/
set_option maxRecDepth 100000
set_option maxHeartbeats 4000000
/-- the first open minute from m on -/
def xopf (T : XTw) (i : Int) : Nat → Int → Int
  | 0, m => m
  | k + 1, m => if tOpen T i m then m else xopf T i k (60 * (m / 60 + 1))
def xopens (T : XTw) (i m : Int) : Int := xopf T i 24 m
def xdis (T : XTw) (i m : Int) : Int := (thv T 4 i - m % 1440 / 60) % 24
theorem xdis_rg (T : XTw) (i m : Int) : 0 ≤ xdis T i m ∧ xdis T i m < 24 := by unfold xdis; omega
theorem xdis_step {T : XTw} {i m : Int} (o : 0 ≤ thv T 4 i ∧ thv T 4 i ≤ thv T 5 i ∧ thv T 5 i ≤ 23) (m0 : 0 ≤ m) (h : ¬ tOpen T i m) : xdis T i (60 * (m / 60 + 1)) = xdis T i m - 1 := by
  unfold xdis tOpen at *
  omega
theorem xopf_more {T : XTw} {i : Int} (o : 0 ≤ thv T 4 i ∧ thv T 4 i ≤ thv T 5 i ∧ thv T 5 i ≤ 23) : ∀ (k : Nat) (m : Int), 0 ≤ m → xdis T i m ≤ k → xopf T i (k + 1) m = xopf T i k m := by
  intro k
  induction k with
  | zero =>
    intro m m0 h
    have : tOpen T i m := by
      have := xdis_rg T i m
      unfold xdis tOpen at *
      omega
    exact if_pos this
  | succ k ih =>
    intro m m0 h
    show (if tOpen T i m then m else xopf T i (k + 1) (60 * (m / 60 + 1))) = if tOpen T i m then m else xopf T i k (60 * (m / 60 + 1))
    by_cases c : tOpen T i m
    · rw [if_pos c, if_pos c]
    · rw [if_neg c, if_neg c]
      refine ih _ (by omega) ?_
      rw [xdis_step o m0 c]
      omega
theorem xopf_rg {T : XTw} {i : Int} : ∀ (k : Nat) (m : Int), 0 ≤ m → m ≤ xopf T i k m ∧ xopf T i k m ≤ m + 60 * k := by
  intro k
  induction k with
  | zero => intro m m0; exact ⟨Int.le_refl _, by show m ≤ _; omega⟩
  | succ k ih =>
    intro m m0
    show m ≤ (if tOpen T i m then m else xopf T i k (60 * (m / 60 + 1))) ∧ (if tOpen T i m then m else xopf T i k (60 * (m / 60 + 1))) ≤ _
    have := ih (60 * (m / 60 + 1)) (by omega)
    split <;> omega
theorem xopf_shift {T : XTw} {i c : Int} : ∀ (k : Nat) (m : Int), xopf T i k (m + 1440 * c) = xopf T i k m + 1440 * c := by
  intro k
  induction k with
  | zero => intro m; rfl
  | succ k ih =>
    intro m
    show (if tOpen T i (m + 1440 * c) then m + 1440 * c else xopf T i k (60 * ((m + 1440 * c) / 60 + 1))) = (if tOpen T i m then m else xopf T i k (60 * (m / 60 + 1))) + 1440 * c
    have e1 : (m + 1440 * c) % 1440 = m % 1440 := by omega
    have e2 : 60 * ((m + 1440 * c) / 60 + 1) = 60 * (m / 60 + 1) + 1440 * c := by omega
    have e3 : tOpen T i (m + 1440 * c) ↔ tOpen T i m := by unfold tOpen; rw [e1]
    rw [e2, ih]
    by_cases q : tOpen T i m
    · rw [if_pos q, if_pos (e3.mpr q)]
    · rw [if_neg q, if_neg (fun w => q (e3.mp w))]
theorem xopens_step {T : XTw} {i m : Int} (o : 0 ≤ thv T 4 i ∧ thv T 4 i ≤ thv T 5 i ∧ thv T 5 i ≤ 23) (m0 : 0 ≤ m) (h : ¬ tOpen T i m) : xopens T i m = xopens T i (60 * (m / 60 + 1)) := by
  unfold xopens
  show (if tOpen T i m then m else xopf T i 23 (60 * (m / 60 + 1))) = _
  rw [if_neg h]
  refine (xopf_more o 23 _ (by omega) ?_).symm
  rw [xdis_step o m0 h]
  have := xdis_rg T i m
  omega
theorem xopens_yes {T : XTw} {i m : Int} (h : tOpen T i m) : xopens T i m = m := if_pos h
theorem xopens_rg {T : XTw} {i m : Int} (m0 : 0 ≤ m) : m ≤ xopens T i m ∧ xopens T i m ≤ m + 1440 := xopf_rg 24 m m0
/-- a step: by a street; with doors (b) through one's own door, too -/
def wdo (V : Int → Int) (b : Bool) (i j : Int) : Prop := b = true ∧ V i = j ∧ ¬ xbit (V 7) i
def wst (T : XTw) (V : Int → Int) (b : Bool) (i j t : Int) : Option Int :=
  if b = true ∧ V i = j ∧ ¬ xbit (V 7) i then some (if 0 < tst T i j then (if xopens T i t + tsc T 0 < t + tst T i j then xopens T i t + tsc T 0 else t + tst T i j) else xopens T i t + tsc T 0) else if 0 < tst T i j then some (t + tst T i j) else none
theorem wst_rg {T : XTw} {V : Int → Int} {b : Bool} {i j t v : Int} (TO : TOK T) (i0 : 0 ≤ i ∧ i < 7) (j0 : 0 ≤ j ∧ j < 7) (t0 : 0 ≤ t) (h : wst T V b i j t = some v) : t < v ∧ v ≤ t + 1449 := by
  have h1 := TO.1
  have h2 := TO.2.2.2.2.2.2.1 i j i0.1 i0.2 j0.1 j0.2
  have h3 := xopens_rg (T := T) (i := i) t0
  unfold wst at h
  split at h
  · cases h
    split
    · split <;> omega
    · omega
  · split at h
    · cases h
      omega
    · cases h
theorem wst_shift {T : XTw} {V : Int → Int} {b : Bool} {i j t c : Int} : wst T V b i j (t + 1440 * c) = (wst T V b i j t).map (· + 1440 * c) := by
  have e : xopens T i (t + 1440 * c) = xopens T i t + 1440 * c := xopf_shift 24 t
  unfold wst
  rw [e]
  split
  · show some _ = some (_ + 1440 * c)
    congr 1
    split
    · by_cases q : xopens T i t + tsc T 0 < t + tst T i j
      · rw [if_pos (by omega), if_pos q]
        omega
      · rw [if_neg (by omega), if_neg q]
        omega
    · omega
  · split
    · show some _ = some (_ + 1440 * c)
      congr 1
      omega
    · rfl
theorem x_opens {d : Nat} {h : XH} {B a t i mm n : Int} {T : XTw} {V : Int → Int} (L : RoomsL h a) (SN : SnapX h T a t V) (TX : TownX h B t T) (TO : TOK T) (VO : VOK T n V) (i0 : 0 ≤ i ∧ i < tnh T) (m0 : 0 ≤ mm ∧ mm ≤ 1000000) : WpM (d + 2) 111 [.inr (.inr a), .inl i, .inl mm] h (XE (some (.inl (if V i ≠ -2 ∧ ¬ xbit (V 7) i then xopens T i mm else 100000000))) h) := by
  have hn := TO.2.2.1
  have ta := L.2.1
  have t1 := L.2.2.1
  have f40 := L.2.2.2.2.2.1
  have hv := SN.2.1 i i0.1 i0.2
  have h44 := SN.2.2.1
  have h43 := SN.1
  have h7 := VO.2.2.2.1
  have ct := TX.1.2.2
  have chs := TX.2.1.1.2.2
  have HX := TX.2.2.2.1 i i0.1 i0.2
  have ca := HX.1.2.2
  have o := (TO.2.2.2.2.1 i i0.1 i0.2).2.2.2.2.1
  clear L SN VO TX TO
  refine WpM.of rfl (Wp.vc 400 [27] rfl ?_)
  rw [f40, hv]
  refine ⟨isF ta rfl, isA t1 i0.1 (by omega), fun c => ⟨trivial, ?_⟩, fun c => ⟨isF ta rfl, ?_⟩⟩
  · rw [if_neg (fun w => w.1 c)]
    exact ⟨rfl, rfl⟩
  · rw [h44]
    refine Wp.callE (j := 0) rfl (Nat.le_of_ble_eq_true rfl) trivial (x_has (V 7) i ⟨by omega, by omega⟩ ⟨i0.1, by omega⟩) ?_
    refine Wp.vc 400 [27] rfl ?_
    by_cases c2 : xbit (V 7) i
    · rw [if_pos c2, if_neg (fun w => w.2 c2)]
      exact ⟨fun w => absurd w (by decide), fun _ => ⟨trivial, rfl, rfl⟩⟩
    · rw [if_neg c2, if_pos ⟨c, c2⟩]
      refine ⟨fun _ => ?_, fun w => absurd rfl w⟩
      have key : ∀ (q : Int), (0 ≤ q ∧ q ≤ mm + 60 * (24 - xdis T i q) ∧ xopens T i q = xopens T i mm) → Wp (d + 2) 111 27 [some (.inr (.inr a)), some (.inl i), some (.inl mm), some (.inl q)] [] h (XE (some (.inl (xopens T i mm))) h) := by
        refine loopM (fun q => (xdis T i q).toNat) ?_
        rintro q ⟨q0, q1, q2⟩ ih
        have dr := xdis_rg T i q
        refine Wp.vc 400 [27] rfl ?_
        rw [h43]
        refine ⟨isF ta rfl, isF ct rfl, isR chs (by decide) i0.1 (by omega), ?_⟩
        refine Wp.callE (j := 0) rfl (Nat.le_of_ble_eq_true rfl) ⟨true, ca⟩ (x_HisOpen HX q0) ?_
        by_cases c3 : tOpen T i q
        · rw [if_pos c3]
          rw [xopens_yes c3] at q2
          refine Wp.vc 400 [27] rfl ?_
          exact ⟨fun _ => ⟨trivial, by rw [q2], rfl⟩, fun w => absurd (show ¬ (1 : Int) = 0 by decide) w⟩
        · rw [if_neg c3]
          have ds := xdis_step o q0 c3
          have dr2 := xdis_rg T i (60 * (q / 60 + 1))
          have ed : q.tdiv 60 = q / 60 := Int.tdiv_eq_ediv_of_nonneg q0
          refine Wp.vc 400 [27] rfl ?_
          refine ⟨fun w => absurd rfl w, fun _ => ⟨⟨by decide, Or.inl q0⟩, ?_⟩⟩
          rw [ed]
          refine ⟨⟨by omega, by omega⟩, ⟨by omega, by omega⟩, ih (60 * (q / 60 + 1)) ?_ ⟨by omega, ?_, ?_⟩⟩
          · omega
          · rw [ds]; omega
          · rw [← xopens_step o q0 c3, q2]
      have := xdis_rg T i mm
      exact key mm ⟨m0.1, by omega, rfl⟩
theorem x_byStreets {d : Nat} {h : XH} {B a r t i j mm : Int} {T : XTw} {V : Int → Int} (TX : TownX h B t T) (TO : TOK T) (i0 : 0 ≤ i ∧ i < 7) (j0 : 0 ≤ j ∧ j < 7) (m0 : 0 ≤ mm ∧ mm ≤ 1000000) : WpM (d + 1) 123 [.inr (.inr a), .inr (.inr t), .inr (.inr r), .inl i, .inl j, .inl mm] h (XE (some (.inl ((wst T V false i j mm).getD 100000000))) h) := by
  have st := x_Tstreet (d := d) TX i0 j0
  have ct := TX.1.2.2
  have rg := TO.2.2.2.2.2.2.1 i j i0.1 i0.2 j0.1 j0.2
  have ew : wst T V false i j mm = if 0 < tst T i j then some (mm + tst T i j) else none := if_neg (fun w => by cases w.1)
  clear TX TO
  rw [ew]
  refine WpM.of rfl (Wp.vc 400 [] rfl ?_)
  refine Wp.callE (j := 0) rfl (Nat.le_of_ble_eq_true rfl) ⟨true, ct⟩ st ?_
  by_cases c : 0 < tst T i j
  · rw [if_pos c]
    refine Wp.vc 400 [] rfl ?_
    refine ⟨fun w => absurd w (by omega), fun _ => ?_⟩
    refine Wp.callE (j := 0) rfl (Nat.le_of_ble_eq_true rfl) ⟨true, ct⟩ st ?_
    refine Wp.vc 400 [] rfl ?_
    exact ⟨⟨by omega, by omega⟩, trivial, rfl, rfl⟩
  · rw [if_neg c]
    refine Wp.vc 400 [] rfl ?_
    exact ⟨fun _ => ⟨trivial, rfl, rfl⟩, fun w => absurd (by omega) w⟩
theorem x_byAll {d : Nat} {h : XH} {B a r t i j mm n : Int} {T : XTw} {V : Int → Int} (ta : xty h a = some (true, 6, none)) (L : RoomsL h r) (SN : SnapX h T r t V) (TX : TownX h B t T) (TO : TOK T) (VO : VOK T n V) (i0 : 0 ≤ i ∧ i < tnh T) (j0 : 0 ≤ j ∧ j < tnh T) (m0 : 0 ≤ mm ∧ mm ≤ 1000000) : WpM (d + 3) 125 [.inr (.inr a), .inr (.inr t), .inr (.inr r), .inl i, .inl j, .inl mm] h (XE (some (.inl ((wst T V true i j mm).getD 100000000))) h) := by
  have hn := TO.2.2.1
  have by1 := x_byStreets (d := d + 1) (a := a) (r := r) (V := V) TX TO (i := i) (j := j) ⟨i0.1, by omega⟩ ⟨j0.1, by omega⟩ m0
  have op := x_opens (d := d) L SN TX TO VO i0 m0
  have ct := TX.1.2.2
  have rg := TO.2.2.2.2.2.2.1 i j i0.1 (by omega) j0.1 (by omega)
  have dr := TO.1
  have e109 : xfl h t 109 = tsc T 0 := TX.2.2.1.1
  have hv := SN.2.1 i i0.1 i0.2
  have tr := L.2.1
  have t1 := L.2.2.1
  have f40 := L.2.2.2.2.2.1
  have xr := xopens_rg (T := T) (i := i) m0.1
  have ew : wst T V false i j mm = if 0 < tst T i j then some (mm + tst T i j) else none := if_neg (fun w => by cases w.1)
  rw [ew] at by1
  clear TX TO VO L SN ew
  unfold wst
  refine WpM.of rfl (Wp.vc 400 [] rfl ?_)
  refine Wp.callE (j := 0) rfl (Nat.le_of_ble_eq_true rfl) ⟨true, ta⟩ by1 ?_
  refine Wp.vc 400 [] rfl ?_
  rw [f40, hv]
  refine ⟨isF tr rfl, isA t1 i0.1 (by omega), fun c => ⟨trivial, ?_⟩, fun c => ?_⟩
  · rw [if_neg (fun w => c w.2.1)]
    exact ⟨rfl, rfl⟩
  · have c : V i = j := Decidable.of_not_not c
    refine Wp.callE (j := 0) rfl (Nat.le_of_ble_eq_true rfl) ⟨true, tr⟩ op ?_
    refine Wp.vc 400 [] rfl ?_
    rw [e109]
    by_cases c2 : xbit (V 7) i
    · rw [if_neg (fun w => w.2 c2), if_neg (fun w => w.2.2 c2)]
      refine ⟨isF ct rfl, ⟨by omega, by omega⟩, trivial, ?_⟩
      by_cases q : 0 < tst T i j
      · rw [if_pos q]
        show XE _ _ (.inl (some (.inl (if 100000000 + tsc T 0 < mm + tst T i j then _ else mm + tst T i j)))) h
        rw [if_neg (by omega)]
        exact ⟨rfl, rfl⟩
      · rw [if_neg q]
        show XE _ _ (.inl (some (.inl (if 100000000 + tsc T 0 < 100000000 then _ else 100000000)))) h
        rw [if_neg (by omega)]
        exact ⟨rfl, rfl⟩
    · rw [if_pos ⟨by omega, c2⟩, if_pos ⟨rfl, c, c2⟩]
      refine ⟨isF ct rfl, ⟨by omega, by omega⟩, trivial, ?_⟩
      by_cases q : 0 < tst T i j
      · rw [if_pos q, if_pos q]
        exact ⟨rfl, rfl⟩
      · rw [if_neg q, if_neg q]
        show XE _ _ (.inl (some (.inl (if xopens T i mm + tsc T 0 < 100000000 then _ else 100000000)))) h
        rw [if_pos (by omega)]
        exact ⟨rfl, rfl⟩
/-- a call of by.comes -/
theorem Wp.byC {d M pc np : Nat} {ls : XL} {st rest : XS} {h : XH} {B a r t i j mm n : Int} {b : Bool} {T : XTw} {V : Int → Int} {Q : XO → XH → Prop} (ta : xty h a = some (true, if b = true then 6 else 5, none)) (L : RoomsL h r) (SN : SnapX h T r t V) (TX : TownX h B t T) (TO : TOK T) (VO : VOK T n V) (i0 : 0 ≤ i ∧ i < tnh T) (j0 : 0 ≤ j ∧ j < tnh T) (m0 : 0 ≤ mm ∧ mm ≤ 1000000) (e0 : xstK M pc 0 st = some (np, some 5, 123, [.inr (.inr a), .inr (.inr t), .inr (.inr r), .inl i, .inl j, .inl mm], rest)) (e1 : xstK M pc 1 st = some (np, some 6, 125, [.inr (.inr a), .inr (.inr t), .inr (.inr r), .inl i, .inl j, .inl mm], rest)) (hw : xwords rest ≤ 8) (k : Wp (d + 4) M np ls (.inl ((wst T V b i j mm).getD 100000000) :: rest) h Q) : Wp (d + 4) M pc ls st h Q := by
  have hn := TO.2.2.1
  cases b with
  | false => exact Wp.callE e0 hw ⟨true, ta⟩ (x_byStreets (d := d + 2) TX TO ⟨i0.1, by omega⟩ ⟨j0.1, by omega⟩ m0) k
  | true => exact Wp.callE e1 hw ⟨true, ta⟩ (x_byAll (d := d) ta L SN TX TO VO i0 j0 m0) k
