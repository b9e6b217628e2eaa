/-! WALKS, 30: heat: owes, net, debtor -/
set_option maxRecDepth 100000
set_option maxHeartbeats 4000000
theorem x_dividing {h : XH} : ∀ (y x D : Nat), y + 1 ≤ D → WpM D 39 [.inr (.inl (x : Int)), .inr (.inl (y : Int))] h (XE (some (.inr (.inl ((Nat.gcd x y : Nat) : Int)))) h) := by
  intro y
  induction y using Nat.strongRecOn with
  | _ y ih =>
    intro x D hD
    obtain ⟨D, rfl⟩ : ∃ D', D = D' + 1 := ⟨D - 1, by omega⟩
    refine WpM.of rfl (Wp.vc 400 [] rfl ?_)
    refine ⟨fun c => ⟨⟨fun w => c (xcmp_0.mpr w), Or.inl (by omega)⟩, ?_⟩, fun c => ⟨trivial, ?_⟩⟩
    · have y0 : y ≠ 0 := fun w => c (xcmp_0.mpr (by omega))
      have lt : x % y < y := Nat.mod_lt _ (by omega)
      have k := ih (x % y) lt y D (by omega)
      rw [show (x : Int).tmod (y : Int) = ((x % y : Nat) : Int) from (Int.ofNat_tmod x y).symm]
      refine Wp.callE (j := 0) rfl (Nat.le_of_ble_eq_true rfl) trivial k ?_
      rw [show Nat.gcd y (x % y) = Nat.gcd x y by rw [Nat.gcd_comm, ← Nat.gcd_rec, Nat.gcd_comm]]
      refine Wp.vc 400 [] rfl ?_
      exact ⟨trivial, rfl, rfl⟩
    · have y0 : (y : Int) = 0 := xcmp_0.mp (Decidable.of_not_not c)
      have y0 : y = 0 := by omega
      subst y0
      rw [Nat.gcd_zero_right]
      exact ⟨rfl, rfl⟩
/-- a fraction's one number in lowest terms -/
def low (up down lo : Int) : Int := (if lo = 0 then up else down).tdiv ((Nat.gcd down.natAbs up.natAbs : Nat) : Int)
theorem gcd_pos {down up : Int} (h : 0 < down) : (0 : Int) < ((Nat.gcd down.natAbs up.natAbs : Nat) : Int) := by
  have := Nat.gcd_pos_of_pos_left up.natAbs (show 0 < down.natAbs by omega)
  omega
theorem x_lowest {d : Nat} {h : XH} {up down lo : Int} (h1 : 0 < down ∧ down ≤ 100) (h2 : -1000000 ≤ up ∧ up ≤ 1000000) : WpM (d + 110) 38 [.inr (.inl up), .inr (.inl down), .inl lo] h (XE (some (.inr (.inl (low up down lo)))) h) := by
  have gp := gcd_pos (up := up) h1.1
  have dv : WpM (d + 109) 39 [.inr (.inl down), .inr (.inl (if 0 < up then up else -up))] h (XE (some (.inr (.inl ((Nat.gcd down.natAbs up.natAbs : Nat) : Int)))) h) := by
    have e1 : (if 0 < up then up else -up) = ((up.natAbs : Nat) : Int) := by split <;> omega
    have e2 : down = ((down.natAbs : Nat) : Int) := by omega
    rw [e1]
    by_cases u0 : up.natAbs = 0
    · have k := x_dividing (h := h) up.natAbs down.natAbs (d + 109) (by omega)
      rw [← e2] at k
      exact k
    · have hD : down.natAbs % up.natAbs + 1 ≤ d + 108 := by
        have := Nat.mod_le down.natAbs up.natAbs
        omega
      have k := x_dividing (h := h) (down.natAbs % up.natAbs) up.natAbs (d + 108) hD
      refine WpM.of rfl (Wp.vc 400 [] rfl ?_)
      refine ⟨fun c => ⟨⟨fun w => u0 (by omega), Or.inl (by omega)⟩, ?_⟩, fun c => absurd (fun w => u0 (by have := xcmp_0.mp w; omega)) c⟩
      rw [show down.tmod ((up.natAbs : Nat) : Int) = ((down.natAbs % up.natAbs : Nat) : Int) by
        have := Int.ofNat_tmod down.natAbs up.natAbs
        rw [← e2] at this
        exact this.symm]
      refine Wp.callE (j := 0) rfl (Nat.le_of_ble_eq_true rfl) trivial k ?_
      rw [show Nat.gcd up.natAbs (down.natAbs % up.natAbs) = Nat.gcd down.natAbs up.natAbs by rw [Nat.gcd_comm, ← Nat.gcd_rec, Nat.gcd_comm]]
      refine Wp.vc 400 [] rfl ?_
      exact ⟨trivial, rfl, rfl⟩
  unfold low
  by_cases c : lo = 0
  · rw [if_pos c]
    refine WpM.of rfl (Wp.vc 400 [] rfl ?_)
    refine ⟨fun _ => ⟨by omega, ?_⟩, fun w => absurd c w⟩
    refine Wp.callE (j := 0) rfl (Nat.le_of_ble_eq_true rfl) trivial dv ?_
    refine Wp.vc 400 [] rfl ?_
    exact ⟨⟨by omega, Or.inr (by omega)⟩, trivial, rfl, rfl⟩
  · rw [if_neg c]
    refine WpM.of rfl (Wp.vc 400 [] rfl ?_)
    refine ⟨fun w => absurd w c, fun _ => ⟨by omega, ?_⟩⟩
    refine Wp.callE (j := 0) rfl (Nat.le_of_ble_eq_true rfl) trivial dv ?_
    refine Wp.vc 400 [] rfl ?_
    exact ⟨⟨by omega, Or.inr (by omega)⟩, trivial, rfl, rfl⟩
theorem m_common {d : Nat} {h : XH} {up down : Int} (h1 : 0 < down ∧ down ≤ 100) (h2 : -1000000 ≤ up ∧ up ≤ 1000000) : WpM d 217 [.inr (.inl up), .inr (.inl down)] h (XE (some (.inr (.inl ((Nat.gcd down.natAbs up.natAbs : Nat) : Int)))) h) := by
  have key : ∀ (q : Nat × Nat), (Nat.gcd q.2 q.1 = Nat.gcd down.natAbs up.natAbs) → ∀ l8 l9, Wp d 217 17 [some (.inr (.inl up)), none, some (.inr (.inl down)), none, some (.inr (.inl (q.1 : Int))), none, some (.inr (.inl (q.2 : Int))), none, l8, l9] [] h (XE (some (.inr (.inl ((Nat.gcd down.natAbs up.natAbs : Nat) : Int)))) h) := by
    refine loopM (fun q : Nat × Nat => q.2) (G := fun q : Nat × Nat => ∀ l8 l9, Wp d 217 17 [some (.inr (.inl up)), none, some (.inr (.inl down)), none, some (.inr (.inl (q.1 : Int))), none, some (.inr (.inl (q.2 : Int))), none, l8, l9] [] h (XE (some (.inr (.inl ((Nat.gcd down.natAbs up.natAbs : Nat) : Int)))) h)) ?_
    rintro ⟨x, y⟩ hg ih l8 l9
    have hg : Nat.gcd y x = _ := hg
    have ih : ∀ s' : Nat × Nat, s'.2 < y → _ → _ := ih
    show Wp d 217 17 [some (.inr (.inl up)), none, some (.inr (.inl down)), none, some (.inr (.inl (x : Int))), none, some (.inr (.inl (y : Int))), none, l8, l9] [] h _
    refine Wp.vc 400 [17] rfl ?_
    refine ⟨fun c => ⟨trivial, ?_⟩, fun c => ⟨⟨fun w => c (xcmp_0.mpr w), Or.inl (by omega)⟩, ?_⟩⟩
    · have y0 := xcmp_0.mp c
      have y0 : y = 0 := by omega
      rw [y0, Nat.gcd_zero_left] at hg
      rw [← hg]
      exact ⟨rfl, rfl⟩
    · have y0 : y ≠ 0 := fun w => c (xcmp_0.mpr (by omega))
      rw [show (x : Int).tmod (y : Int) = ((x % y : Nat) : Int) from (Int.ofNat_tmod x y).symm]
      exact ih (y, x % y) (Nat.mod_lt _ (by omega)) (by show Nat.gcd (x % y) y = _; rw [← Nat.gcd_rec, hg]) _ _
  have e2 : down = ((down.natAbs : Nat) : Int) := by omega
  have k := key (up.natAbs, down.natAbs) rfl none none
  have k : Wp d 217 17 [some (.inr (.inl up)), none, some (.inr (.inl down)), none, some (.inr (.inl ((up.natAbs : Nat) : Int))), none, some (.inr (.inl ((down.natAbs : Nat) : Int))), none, none, none] [] h (XE (some (.inr (.inl ((Nat.gcd down.natAbs up.natAbs : Nat) : Int)))) h) := k
  rw [← e2] at k
  clear key
  have hc : (0 ≤ xcmp up 0) ↔ 0 ≤ up := by
    unfold xcmp
    split
    · omega
    · split <;> omega
  refine WpM.of rfl (Wp.vc 400 [17] rfl ?_)
  refine ⟨fun c => ?_, fun c => ⟨by omega, ?_⟩⟩
  · have c := hc.mp c
    rw [show ((up.natAbs : Nat) : Int) = up by omega] at k
    exact k
  · have c : ¬ 0 ≤ up := fun w => c (hc.mpr w)
    rw [show ((up.natAbs : Nat) : Int) = -up by omega] at k
    exact k
theorem MU.fracK {d M pc np : Nat} {ls : XL} {st rest : XS} {B m n up down lo : Int} {h0 h : XH} {S : XSt} {Q : XO → XH → Prop} (U : MU B m n h0 h S) (h1 : 0 < down ∧ down ≤ 100) (h2 : -1000000 ≤ up ∧ up ≤ 1000000) (e : xstK M pc 0 st = some (np, some 9, 216, [.inr (.inr m), .inr (.inl up), .inr (.inl down), .inl lo], rest)) (hw : xwords rest ≤ 8) (k : ∀ h1, MU B m n h0 h1 (sSet S 0 (-1)) → Wp (d + 3) M np ls (.inr (.inl (low up down lo)) :: rest) h1 Q) : Wp (d + 3) M pc ls st h Q := by
  refine Wp.callR e hw ⟨true, U.tm⟩ (Q1 := fun v h' => v = some (.inr (.inl (low up down lo))) ∧ MU B m n h0 h' (sSet S 0 (-1))) ?_ (fun v h1 q => by
    obtain ⟨rfl, q1⟩ := q
    exact k h1 q1)
  have gp := gcd_pos (up := up) h1.1
  refine WpM.of rfl (Wp.vc 400 [] rfl ?_)
  refine U.goodK rfl (Nat.zero_le _) (fun g U1 => ?_)
  have cm := m_common (d := d + 1) (h := g) h1 h2
  unfold low
  by_cases c : lo = 0
  · rw [if_pos c]
    refine Wp.vc 400 [] rfl ?_
    refine ⟨fun _ => ?_, fun w => absurd c w⟩
    refine Wp.callE (j := 0) rfl (Nat.le_of_ble_eq_true rfl) trivial cm ?_
    refine Wp.vc 400 [] rfl ?_
    exact ⟨⟨by omega, Or.inr (by omega)⟩, trivial, _, rfl, rfl, U1⟩
  · rw [if_neg c]
    refine Wp.vc 400 [] rfl ?_
    refine ⟨fun w => absurd w c, fun _ => ?_⟩
    refine Wp.callE (j := 0) rfl (Nat.le_of_ble_eq_true rfl) trivial cm ?_
    refine Wp.vc 400 [] rfl ?_
    exact ⟨⟨by omega, Or.inr (by omega)⟩, trivial, _, rfl, rfl, U1⟩
/-- what one owes, its parts -/
def owB (T : XTw) (V : Int → Int) (i : Int) : Int := if xlender V (tnh T) i = -2 then 0 else thv T 2 (xlender V (tnh T) i)
def paB (T : XTw) (V : Int → Int) (i : Int) : Int := if xlender V (tnh T) i = -2 then 1 else thv T 0 (xlender V (tnh T) i) + 1
theorem xlender_rg (V : Int → Int) {n : Int} (i : Int) (n0 : 0 ≤ n) : xlender V n i = -2 ∨ (0 ≤ xlender V n i ∧ xlender V n i < n) := by
  unfold xlender
  rcases xfst_spec (p := fun h => decide (V h = i)) n.toNat 0 with q | q
  · exact Or.inl q.1
  · exact Or.inr ⟨q.1, by have := q.2.1; omega⟩
theorem owpa_rg {T : XTw} {V : Int → Int} {i : Int} (TO : TOK T) : (0 ≤ owB T V i ∧ owB T V i ≤ 999) ∧ (1 ≤ paB T V i ∧ paB T V i ≤ 10) := by
  have hn := TO.2.2.1
  have r := xlender_rg V i (show 0 ≤ tnh T by omega)
  unfold owB paB
  by_cases c : xlender V (tnh T) i = -2
  · rw [if_pos c, if_pos c]
    omega
  · rw [if_neg c, if_neg c]
    have := TO.2.2.2.2.1 _ (r.resolve_left c).1 (r.resolve_left c).2
    omega
def opOwes (S : XSt) (i lo : Int) : Int × XSt := onH S i fun T => sOk S (low (owB T (sV S) i) (paB T (sV S) i) lo)
def opNet (S : XSt) (i lo : Int) : Int × XSt := match sT S with
  | none => (-9223372036854775808, sSet S 1 (-1))
  | some T => if 0 ≤ i ∧ i < tnh T then sOk S (low ((if sV S i = -2 then 0 else thv T 2 i) * paB T (sV S) i - owB T (sV S) i * (thv T 0 i + 1)) ((thv T 0 i + 1) * paB T (sV S) i) lo) else (-9223372036854775808, sSet S 1 (-1))
theorem opNet_no {S : XSt} {i lo : Int} (h : ¬ isHou S i) : opNet S i lo = (-9223372036854775808, sSet S 1 (-1)) := by
  unfold opNet
  cases e : sT S with
  | none => rfl
  | some T => exact if_neg (fun q => h ⟨T, e, q⟩)
theorem opNet_yes {S : XSt} {i lo : Int} {T : XTw} (e : sT S = some T) (h : 0 ≤ i ∧ i < tnh T) : opNet S i lo = sOk S (low ((if sV S i = -2 then 0 else thv T 2 i) * paB T (sV S) i - owB T (sV S) i * (thv T 0 i + 1)) ((thv T 0 i + 1) * paB T (sV S) i) lo) := by
  unfold opNet
  rw [e]
  exact if_pos h
theorem x_shares {d : Nat} {h : XH} {B s n i : Int} {h0 : XH} {S : XSt} {T : XTw} (U : XU B s n h0 h S) (e : sT S = some T) (i0 : 0 ≤ i ∧ i < tnh T) : WpM d 40 [.inr (.inr s), .inl i] h (XE (some (.inl (thv T 0 i + 1))) h) := by
  obtain ⟨-, -, -, TX, -⟩ := U.rooms e
  have TO := (U.ok e).1
  have hn := TO.2.2.1
  have ts := U.ts
  have ct := TX.1.2.2
  have ch := TX.2.1.1.2.2
  have HX := TX.2.2.2.1 i i0.1 i0.2
  have ca := HX.1.2.2
  have e0 := HX.2.1.2.1
  have r := TO.2.2.2.2.1 i i0.1 i0.2
  clear TX TO HX
  refine WpM.of rfl (Wp.vc 400 [] rfl ?_)
  rw [e0]
  exact ⟨isF ts rfl, isF ct rfl, isR ch (by decide) i0.1 (by omega), isF ca rfl, ⟨by omega, by omega⟩, trivial, rfl, rfl⟩
theorem XU.lenderK {d M pc np : Nat} {ls : XL} {st rest : XS} {B s n i : Int} {h0 h : XH} {S : XSt} {T : XTw} {Q : XO → XH → Prop} (U : XU B s n h0 h S) (eT : sT S = some T) (e : xstK M pc 0 st = some (np, some 3, 107, [.inr (.inr (s + 5)), .inl i], rest)) (hw : xwords rest ≤ 8) (k : Wp (d + 1) M np ls (.inl (xlender (sV S) (tnh T) i) :: rest) h Q) : Wp (d + 1) M pc ls st h Q := by
  obtain ⟨RT, hv, -⟩ := U.rooms eT
  have ln := x_lender (d := d) (g := i) RT
  rw [xlender_congr hv] at ln
  exact Wp.callE e hw ⟨true, RT.1.2.1⟩ ln k
theorem x_opOwes {d : Nat} {h : XH} {B s n i lo : Int} {S : XSt} (R : Rx h B s S) (O : SOK n S) : WpM (d + 112) 37 [.inr (.inr s), .inl i, .inl lo] h (XAn B s h (.inr (.inl (opOwes S i lo).1)) (opOwes S i lo).2) := by
  refine WpM.of rfl (Wp.vc 400 [] rfl ?_)
  refine XU.anew R O rfl (Nat.zero_le _) (fun h1 U => ?_)
  refine Wp.vc 400 [] rfl ?_
  refine XU.hou (d := d + 110) U rfl (Nat.zero_le _) (fun T e i0 => ?_) (fun hp => ?_)
  · rw [show opOwes S i lo = _ from onH_yes e i0]
    have TO := (U.ok e).1
    have hn := TO.2.2.1
    have r := xlender_rg (sV S) i (show 0 ≤ tnh T by omega)
    have rg := owpa_rg (V := sV S) (i := i) TO
    have ts := U.ts
    have lw := x_lowest (d := d + 1) (h := h1) (lo := lo) (up := owB T (sV S) i) (down := paB T (sV S) i) (by omega) (by omega)
    refine Wp.vc 400 [] rfl ?_
    rw [U.f9]
    refine ⟨fun _ => ⟨isF ts rfl, ?_⟩, fun w => absurd (show ¬ (1 : Int) = 0 by decide) w⟩
    refine XU.lenderK (d := d + 111) U e rfl (Nat.le_of_ble_eq_true rfl) ?_
    show Wp _ _ _ _ (.inl (xlender (sV S) (tnh T) i) :: _) _ _
    by_cases c : xlender (sV S) (tnh T) i = -2
    · have e1 : owB T (sV S) i = 0 := if_pos c
      have e2 : paB T (sV S) i = 1 := if_pos c
      rw [e1, e2] at lw
      rw [e1, e2]
      refine Wp.vc 400 [] rfl ?_
      refine ⟨fun w => absurd c w, fun _ => ?_⟩
      refine Wp.callE (j := 0) rfl (Nat.le_of_ble_eq_true rfl) trivial lw ?_
      refine Wp.vc 400 [] rfl ?_
      exact ⟨trivial, U.ret⟩
    · have r := r.resolve_left c
      have e1 : owB T (sV S) i = thv T 2 (xlender (sV S) (tnh T) i) := if_neg c
      have e2 : paB T (sV S) i = thv T 0 (xlender (sV S) (tnh T) i) + 1 := if_neg c
      rw [e1, e2] at lw
      rw [e1, e2]
      obtain ⟨-, -, -, TX, -⟩ := U.rooms e
      have ct := TX.1.2.2
      have ch := TX.2.1.1.2.2
      have HX := TX.2.2.2.1 _ r.1 r.2
      have ca := HX.1.2.2
      have e3 := HX.2.1.2.2.2.1
      have sh := x_shares (d := d + 111) U e r
      clear TX HX
      refine Wp.vc 400 [] rfl ?_
      rw [e3]
      refine ⟨fun _ => ⟨isF ts rfl, isF ct rfl, isR ch (by decide) r.1 (by omega), isF ca rfl, ?_⟩, fun w => absurd c w⟩
      refine Wp.callE (j := 0) rfl (Nat.le_of_ble_eq_true rfl) ⟨true, ts⟩ sh ?_
      refine Wp.vc 400 [] rfl ?_
      refine Wp.callE (j := 0) rfl (Nat.le_of_ble_eq_true rfl) trivial lw ?_
      refine Wp.vc 400 [] rfl ?_
      exact ⟨trivial, U.ret⟩
  · rw [show opOwes S i lo = _ from onH_no hp]
    refine Wp.vc 400 [] rfl ?_
    first | refine ⟨fun _ => ?_, fun c => absurd (by decide) c⟩ | refine ⟨fun c => absurd c (by decide), fun _ => ?_⟩
    refine U.noK (k := 1) (by decide) rfl (Nat.zero_le _) (fun h2 U2 => ?_)
    refine Wp.vc 400 [] rfl ?_
    exact ⟨trivial, U2.ret⟩
theorem m_owedBy {d : Nat} {h0 h : XH} {B m n i : Int} {S : XSt} {T : XTw} (U : MU B m n h0 h S) (e : sT S = some T) : WpM (d + 1) 214 [.inr (.inr m), .inl i] h (XE (some (.inl (owB T (sV S) i))) h) := by
  obtain ⟨ne, TX, hv, -⟩ := U.hasT e
  have TO := (U.ok e).1
  have hn := TO.2.2.1
  have r := xlender_rg (sV S) i (show 0 ≤ tnh T by omega)
  have tm := U.tm
  have c0 := TX.1.2.2
  have c2 := TX.2.1.1.2.2.1.2.2
  have ln := m_whose (d := d) (g := i) (n := tnh T) U.lay rfl c0 TX.2.2.1.2.2.1 (by omega) hn.2
  rw [xlender_congr (fun k k0 k1 => hv k k0 (by omega))] at ln
  unfold owB
  refine WpM.of rfl (Wp.vc 400 [] rfl ?_)
  refine Wp.callE (j := 0) rfl (Nat.le_of_ble_eq_true rfl) ⟨true, tm⟩ ln ?_
  show Wp _ _ _ _ (.inl (xlender (sV S) (tnh T) i) :: _) _ _
  by_cases c : xlender (sV S) (tnh T) i = -2
  · rw [if_pos c]
    refine Wp.vc 400 [] rfl ?_
    exact ⟨fun w => absurd c w, fun _ => ⟨trivial, rfl, rfl⟩⟩
  · have r := r.resolve_left c
    have v2 := (TX.2.2.2.1 _ r.1 r.2).2.2.1
    rw [if_neg c]
    clear TX
    refine Wp.vc 400 [] rfl ?_
    rw [v2]
    exact ⟨fun _ => ⟨isF tm rfl, isF c0 rfl, isA c2 r.1 (by omega), trivial, rfl, rfl⟩, fun w => absurd c w⟩
theorem m_partsBy {d : Nat} {h0 h : XH} {B m n i : Int} {S : XSt} {T : XTw} (U : MU B m n h0 h S) (e : sT S = some T) : WpM (d + 1) 215 [.inr (.inr m), .inl i] h (XE (some (.inl (paB T (sV S) i))) h) := by
  obtain ⟨ne, TX, hv, -⟩ := U.hasT e
  have TO := (U.ok e).1
  have hn := TO.2.2.1
  have r := xlender_rg (sV S) i (show 0 ≤ tnh T by omega)
  have tm := U.tm
  have c0 := TX.1.2.2
  have c2 := TX.2.1.1.1.2.2
  have ln := m_whose (d := d) (g := i) (n := tnh T) U.lay rfl c0 TX.2.2.1.2.2.1 (by omega) hn.2
  rw [xlender_congr (fun k k0 k1 => hv k k0 (by omega))] at ln
  unfold paB
  refine WpM.of rfl (Wp.vc 400 [] rfl ?_)
  refine Wp.callE (j := 0) rfl (Nat.le_of_ble_eq_true rfl) ⟨true, tm⟩ ln ?_
  show Wp _ _ _ _ (.inl (xlender (sV S) (tnh T) i) :: _) _ _
  by_cases c : xlender (sV S) (tnh T) i = -2
  · rw [if_pos c]
    refine Wp.vc 400 [] rfl ?_
    exact ⟨fun w => absurd c w, fun _ => ⟨trivial, rfl, rfl⟩⟩
  · have r := r.resolve_left c
    have v2 := (TX.2.2.2.1 _ r.1 r.2).1
    have rr := TO.2.2.2.2.1 _ r.1 r.2
    rw [if_neg c]
    clear TX TO
    refine Wp.vc 400 [] rfl ?_
    rw [v2]
    exact ⟨fun _ => ⟨isF tm rfl, isF c0 rfl, isA c2 r.1 (by omega), ⟨by omega, by omega⟩, trivial, rfl, rfl⟩, fun w => absurd c w⟩
theorem m_opOwes {d : Nat} {h : XH} {B m n i lo : Int} {S : XSt} (R : Rm h B m S) (O : SOK n S) : WpM (d + 3) 213 [.inr (.inr m), .inl i, .inl lo] h (MAn B m h (.inr (.inl (opOwes S i lo).1)) (opOwes S i lo).2) := by
  refine WpM.of rfl (MU.start R O rfl (fun g U => ?_))
  refine Wp.vc 400 [] rfl ?_
  have tm := U.tm
  refine U.hou rfl (Nat.zero_le _) (fun T e i0 => ?_) (fun hp => ?_)
  · rw [show opOwes S i lo = _ from onH_yes e i0]
    have rg := owpa_rg (V := sV S) (i := i) (U.ok e).1
    refine Wp.vc 400 [] rfl ?_
    first | refine ⟨fun _ => ?_, fun c => absurd (by decide) c⟩ | refine ⟨fun c => absurd c (by decide), fun _ => ?_⟩
    refine Wp.callE (j := 0) rfl (Nat.le_of_ble_eq_true rfl) ⟨true, tm⟩ (m_owedBy U e) ?_
    refine Wp.vc 400 [] rfl ?_
    refine Wp.callE (j := 0) rfl (Nat.le_of_ble_eq_true rfl) ⟨true, tm⟩ (m_partsBy U e) ?_
    refine Wp.vc 400 [] rfl ?_
    refine U.fracK (by omega) (by omega) rfl (Nat.zero_le _) (fun h1 U1 => ?_)
    refine Wp.vc 400 [] rfl ?_
    exact ⟨trivial, U1.ret⟩
  · rw [show opOwes S i lo = _ from onH_no hp]
    refine Wp.vc 400 [] rfl ?_
    first | refine ⟨fun _ => ?_, fun c => absurd (by decide) c⟩ | refine ⟨fun c => absurd c (by decide), fun _ => ?_⟩
    refine U.refK rfl (Nat.zero_le _) (fun h1 U1 => ?_)
    refine Wp.vc 400 [] rfl ?_
    exact ⟨trivial, U1.ret⟩
