/-! WALKS, 32: rents: gain, rests, rest -/
set_option maxRecDepth 100000
set_option maxHeartbeats 4000000
def wor (T : XTw) (V : Int → Int) (i a : Int) : Int := thv T 0 i + (if xbit (xmutual V (tnh T)) i then 2 else 0) - a
def ten (T : XTw) (V : Int → Int) (i a j b : Int) : Int := if tsc T 1 < wor T V i a - wor T V j b then thv T 0 i + thv T 0 j else if wor T V i a - wor T V j b < - tsc T 1 then 0 else (thv T 0 i + thv T 0 j) / 2
theorem xmutual_rg (w : Int → Int) {n : Int} (h : 0 ≤ n ∧ n ≤ 7) : 0 ≤ xmutual w n ∧ xmutual w n < 128 := by
  have h1 := xset_rg (fun h => decide (isMut w h)) n.toNat
  have h2 := two_pow7 h
  unfold xmutual
  omega
theorem ten_rg {T : XTw} {V : Int → Int} {i a j b : Int} (TO : TOK T) (i0 : 0 ≤ i ∧ i < tnh T) (j0 : 0 ≤ j ∧ j < tnh T) : 0 ≤ ten T V i a j b ∧ ten T V i a j b ≤ 18 := by
  have h1 := TO.2.2.2.2.1 i i0.1 i0.2
  have h2 := TO.2.2.2.2.1 j j0.1 j0.2
  unfold ten
  split
  · omega
  · split <;> omega
theorem wor_rg {T : XTw} {V : Int → Int} {i a : Int} (TO : TOK T) (i0 : 0 ≤ i ∧ i < tnh T) (a0 : 0 ≤ a ∧ a ≤ 9) : -8 ≤ wor T V i a ∧ wor T V i a ≤ 11 := by
  have h1 := TO.2.2.2.2.1 i i0.1 i0.2
  unfold wor
  split <;> omega
/-- the row of a state as the mutual set wants it -/
theorem VOK.row {T : XTw} {n : Int} {V : Int → Int} (VO : VOK T n V) : RowOK V (tnh T) := fun i h0 h1 => by
  rcases VO.1 i h0 h1 with w | w
  · exact Or.inl w
  · exact Or.inr ⟨w.1, w.2.1⟩
theorem XU.mutK {d M pc np : Nat} {ls : XL} {st rest : XS} {B s n : Int} {h0 h : XH} {S : XSt} {T : XTw} {Q : XO → XH → Prop} (U : XU B s n h0 h S) (eT : sT S = some T) (e : xstK M pc 0 st = some (np, some 3, 109, [.inr (.inr (s + 5))], rest)) (hw : xwords rest ≤ 8) (k : Wp (d + 2) M np ls (.inl (xmutual (sV S) (tnh T)) :: rest) h Q) : Wp (d + 2) M pc ls st h Q := by
  obtain ⟨RT, hv, -⟩ := U.rooms eT
  have ln := x_mutual (d := d) RT
  rw [xmutual_congr RT.2.2.2.2.2.2 hv] at ln
  exact Wp.callE e hw ⟨true, RT.1.2.1⟩ ln k
theorem x_worth {d : Nat} {h0 h : XH} {B s n i a : Int} {S : XSt} {T : XTw} (U : XU B s n h0 h S) (e : sT S = some T) (i0 : 0 ≤ i ∧ i < tnh T) (a0 : 0 ≤ a ∧ a ≤ 9) : WpM (d + 2) 51 [.inr (.inr s), .inl i, .inl a] h (XE (some (.inl (wor T (sV S) i a))) h) := by
  obtain ⟨-, -, -, TX, -⟩ := U.rooms e
  have TO := (U.ok e).1
  have hn := TO.2.2.1
  have ts := U.ts
  have ct := TX.1.2.2
  have ch := TX.2.1.1.2.2
  have HX := TX.2.2.2.1 i i0.1 i0.2
  have ca := HX.1.2.2
  have e0 := HX.2.1.2.1
  have r := TO.2.2.2.2.1 i i0.1 i0.2
  have mr := xmutual_rg (sV S) (n := tnh T) ⟨by omega, by omega⟩
  clear TX TO HX
  unfold wor
  refine WpM.of rfl (Wp.vc 400 [] rfl ?_)
  rw [e0, U.f9]
  refine ⟨isF ts rfl, isF ct rfl, isR ch (by decide) i0.1 (by omega), isF ca rfl, isF ts rfl, ?_⟩
  refine XU.mutK (d := d) U e rfl (Nat.le_of_ble_eq_true rfl) ?_
  refine Wp.vc 400 [] rfl ?_
  refine Wp.callE (j := 0) rfl (Nat.le_of_ble_eq_true rfl) trivial (x_has _ i ⟨by omega, by omega⟩ ⟨i0.1, by omega⟩) ?_
  by_cases c : xbit (xmutual (sV S) (tnh T)) i
  · rw [if_pos c, if_pos c]
    refine Wp.vc 400 [] rfl ?_
    exact ⟨fun w => absurd w (by decide), fun _ => ⟨by omega, by omega, trivial, rfl, rfl⟩⟩
  · rw [if_neg c, if_neg c]
    refine Wp.vc 400 [] rfl ?_
    exact ⟨fun _ => ⟨by omega, by omega, trivial, rfl, rfl⟩, fun w => absurd rfl w⟩
theorem x_gainOf {d : Nat} {h0 h : XH} {B s n i a j b : Int} {S : XSt} {T : XTw} (U : XU B s n h0 h S) (e : sT S = some T) (i0 : 0 ≤ i ∧ i < tnh T) (j0 : 0 ≤ j ∧ j < tnh T) (a0 : 0 ≤ a ∧ a ≤ 9) (b0 : 0 ≤ b ∧ b ≤ 9) : WpM (d + 3) 50 [.inr (.inr s), .inl i, .inl a, .inl j, .inl b] h (XE (some (.inl (a * ten T (sV S) i a j b))) h) := by
  obtain ⟨-, -, -, TX, -⟩ := U.rooms e
  have TO := (U.ok e).1
  have hn := TO.2.2.1
  have ts := U.ts
  have ct := TX.1.2.2
  have ch := TX.2.1.1.2.2
  have HI := TX.2.2.2.1 i i0.1 i0.2
  have HJ := TX.2.2.2.1 j j0.1 j0.2
  have ci := HI.1.2.2
  have cj := HJ.1.2.2
  have ei := HI.2.1.2.1
  have ej := HJ.2.1.2.1
  have e110 : xfl h (xfl h s 3) 110 = tsc T 1 := TX.2.2.1.2.1
  have ri := TO.2.2.2.2.1 i i0.1 i0.2
  have rj := TO.2.2.2.2.1 j j0.1 j0.2
  have lk := TO.2.1
  have w1 := wor_rg (V := sV S) TO i0 a0
  have w2 := wor_rg (V := sV S) TO j0 b0
  have m1 := mul_rg a0 (ten_rg (V := sV S) (a := a) (b := b) TO i0 j0)
  clear TX TO HI HJ
  unfold ten at m1 ⊢
  refine WpM.of rfl (Wp.vc 400 [] rfl ?_)
  rw [ei, ej]
  refine ⟨isF ts rfl, isF ct rfl, isR ch (by decide) i0.1 (by omega), isF ci rfl, isF ts rfl, isF ct rfl, isR ch (by decide) j0.1 (by omega), isF cj rfl, ⟨by omega, by omega⟩, ?_⟩
  refine Wp.callE (j := 0) rfl (Nat.le_of_ble_eq_true rfl) ⟨true, ts⟩ (x_worth U e i0 a0) ?_
  refine Wp.vc 400 [] rfl ?_
  refine Wp.callE (j := 0) rfl (Nat.le_of_ble_eq_true rfl) ⟨true, ts⟩ (x_worth U e j0 b0) ?_
  refine Wp.vc 400 [] rfl ?_
  rw [e110]
  have ed : (thv T 0 i + thv T 0 j).tdiv 2 = (thv T 0 i + thv T 0 j) / 2 := Int.tdiv_eq_ediv_of_nonneg (by omega)
  have ab : (if 0 ≤ wor T (sV S) i a - wor T (sV S) j b then wor T (sV S) i a - wor T (sV S) j b else -(wor T (sV S) i a - wor T (sV S) j b)) ≤ tsc T 1 ↔ (wor T (sV S) i a - wor T (sV S) j b ≤ tsc T 1 ∧ - tsc T 1 ≤ wor T (sV S) i a - wor T (sV S) j b) := by
    split <;> omega
  refine ⟨⟨by omega, by omega⟩, by omega, isF ts rfl, isF ct rfl, fun c => ⟨fun c2 => ?_, fun c2 => ?_⟩, fun c => ⟨⟨by decide, Or.inr (by decide)⟩, ?_⟩⟩
  · have c3 : ¬ (wor T (sV S) i a - wor T (sV S) j b ≤ tsc T 1 ∧ - tsc T 1 ≤ wor T (sV S) i a - wor T (sV S) j b) := fun w => by
      have := ab.mpr w
      omega
    rw [if_neg (by omega), if_pos (by omega)] at m1 ⊢
    exact ⟨⟨by omega, by omega⟩, trivial, rfl, rfl⟩
  · have c3 : ¬ (wor T (sV S) i a - wor T (sV S) j b ≤ tsc T 1 ∧ - tsc T 1 ≤ wor T (sV S) i a - wor T (sV S) j b) := fun w => by
      have := ab.mpr w
      omega
    rw [if_pos (by omega)] at m1 ⊢
    exact ⟨⟨by omega, by omega⟩, trivial, rfl, rfl⟩
  · have c3 := ab.mp (Int.not_lt.mp c)
    rw [if_neg (by omega), if_neg (by omega)] at m1 ⊢
    rw [ed]
    exact ⟨⟨by omega, by omega⟩, trivial, rfl, rfl⟩
def opGain (S : XSt) (i a j b o : Int) : Int × XSt := onH S i fun T => if (0 ≤ j ∧ j < tnh T) ∧ i ≠ j then (if (0 ≤ a ∧ a ≤ 9) ∧ (0 ≤ b ∧ b ≤ 9) then sOk S (if o = 0 then a * ten T (sV S) i a j b else b * ten T (sV S) j b i a) else sNo S 2) else sNo S 1
theorem opGain_1 {S : XSt} {i a j b o : Int} (h : ¬ (isHou S i ∧ isHou S j ∧ i ≠ j)) : opGain S i a j b o = sNo S 1 := by
  unfold opGain
  by_cases hi : isHou S i
  · obtain ⟨T, e, i0⟩ := id hi
    rw [onH_yes e i0]
    exact if_neg (fun w => h ⟨hi, ⟨T, e, w.1⟩, w.2⟩)
  · exact onH_no hi
theorem opGain_2 {S : XSt} {i a j b o : Int} {T : XTw} (e : sT S = some T) (i0 : 0 ≤ i ∧ i < tnh T) (j0 : (0 ≤ j ∧ j < tnh T) ∧ i ≠ j) (h : ¬ ((0 ≤ a ∧ a ≤ 9) ∧ (0 ≤ b ∧ b ≤ 9))) : opGain S i a j b o = sNo S 2 := by
  unfold opGain
  rw [onH_yes e i0, if_pos j0]
  exact if_neg h
theorem opGain_0 {S : XSt} {i a j b o : Int} {T : XTw} (e : sT S = some T) (i0 : 0 ≤ i ∧ i < tnh T) (j0 : (0 ≤ j ∧ j < tnh T) ∧ i ≠ j) (h : (0 ≤ a ∧ a ≤ 9) ∧ (0 ≤ b ∧ b ≤ 9)) : opGain S i a j b o = sOk S (if o = 0 then a * ten T (sV S) i a j b else b * ten T (sV S) j b i a) := by
  unfold opGain
  rw [onH_yes e i0, if_pos j0]
  exact if_pos h
theorem x_opGain {d : Nat} {h : XH} {B s n i a j b o : Int} {S : XSt} (R : Rx h B s S) (O : SOK n S) : WpM (d + 4) 49 [.inr (.inr s), .inl i, .inl a, .inl j, .inl b, .inl o] h (XAn B s h (.inl (opGain S i a j b o).1) (opGain S i a j b o).2) := by
  refine WpM.of rfl (Wp.vc 400 [] rfl ?_)
  refine XU.anew R O rfl (Nat.zero_le _) (fun h1 U => ?_)
  refine Wp.vc 400 [] rfl ?_
  have ts := U.ts
  have bad1 : opGain S i a j b o = sNo S 1 → Wp (d + 4) 49 25 [some (.inr (.inr s)), some (.inl i), some (.inl a), some (.inl j), some (.inl b), some (.inl o)] [] h1 (XAn B s h (.inl (opGain S i a j b o).1) (opGain S i a j b o).2) := by
    intro e
    rw [e]
    refine Wp.vc 400 [] rfl ?_
    exact U.no (k := 1) (by decide) rfl (fun _ => rfl) rfl
  have bad2 : opGain S i a j b o = sNo S 2 → Wp (d + 4) 49 52 [some (.inr (.inr s)), some (.inl i), some (.inl a), some (.inl j), some (.inl b), some (.inl o)] [] h1 (XAn B s h (.inl (opGain S i a j b o).1) (opGain S i a j b o).2) := by
    intro e
    rw [e]
    refine Wp.vc 400 [] rfl ?_
    exact U.no (k := 2) (by decide) rfl (fun _ => rfl) rfl
  refine XU.hou (d := d + 2) U rfl (Nat.zero_le _) (fun T e i0 => ?_) (fun hp => ?_)
  · refine Wp.vc 400 [25] rfl ?_
    first | refine ⟨fun _ => ?_, fun c => absurd (by decide) c⟩ | refine ⟨fun c => absurd c (by decide), fun _ => ?_⟩
    refine XU.hou (d := d + 2) U rfl (Nat.zero_le _) (fun T' e' j0 => ?_) (fun hp => ?_)
    · rw [e] at e'
      cases e'
      refine Wp.vc 400 [25, 31] rfl ?_
      first | refine ⟨fun _ => ?_, fun c => absurd (by decide) c⟩ | refine ⟨fun c => absurd c (by decide), fun _ => ?_⟩
      refine ⟨fun ne => ?_, fun c => bad1 (opGain_1 (fun w => c w.2.2))⟩
      have o1 := fun h => opGain_2 (a := a) (b := b) (o := o) e i0 ⟨j0, ne⟩ h
      have o2 := fun h => opGain_0 (a := a) (b := b) (o := o) e i0 ⟨j0, ne⟩ h
      have ge := fun i a j b i0 j0 a0 b0 => x_gainOf (d := d) (i := i) (a := a) (j := j) (b := b) U e i0 j0 a0 b0
      refine Wp.vc 400 [] rfl ?_
      refine Wp.callE (j := 0) rfl (Nat.le_of_ble_eq_true rfl) trivial (x_in a 0 9) ?_
      by_cases ca : 0 ≤ a ∧ a ≤ 9
      · rw [if_pos ca]
        refine Wp.vc 400 [52] rfl ?_
        first | refine ⟨fun _ => ?_, fun c => absurd (by decide) c⟩ | refine ⟨fun c => absurd c (by decide), fun _ => ?_⟩
        refine Wp.callE (j := 0) rfl (Nat.le_of_ble_eq_true rfl) trivial (x_in b 0 9) ?_
        by_cases cb : 0 ≤ b ∧ b ≤ 9
        · rw [if_pos cb, show opGain S i a j b o = _ from o2 ⟨ca, cb⟩]
          by_cases co : o = 0
          · rw [if_pos co]
            refine Wp.vc 400 [52] rfl ?_
            refine ⟨fun _ => ⟨fun _ => ?_, fun w => absurd co w⟩, fun w => absurd (show ¬ (1 : Int) = 0 by decide) w⟩
            refine Wp.callE (j := 0) rfl (Nat.le_of_ble_eq_true rfl) ⟨true, ts⟩ (ge i a j b i0 j0 ca cb) ?_
            refine Wp.vc 400 [] rfl ?_
            exact ⟨trivial, U.ret⟩
          · rw [if_neg co]
            refine Wp.vc 400 [52] rfl ?_
            refine ⟨fun _ => ⟨fun w => absurd w co, fun _ => ?_⟩, fun w => absurd (show ¬ (1 : Int) = 0 by decide) w⟩
            refine Wp.callE (j := 0) rfl (Nat.le_of_ble_eq_true rfl) ⟨true, ts⟩ (ge j b i a j0 i0 cb ca) ?_
            refine Wp.vc 400 [] rfl ?_
            exact ⟨trivial, U.ret⟩
        · rw [if_neg cb]
          refine Wp.vc 400 [52] rfl ?_
          exact ⟨fun w => absurd rfl w, fun _ => bad2 (o1 (fun w => cb w.2))⟩
      · rw [if_neg ca]
        refine Wp.vc 400 [52] rfl ?_
        exact ⟨fun _ => bad2 (o1 (fun w => ca w.1)), fun w => absurd rfl w⟩
    · refine Wp.vc 400 [25] rfl ?_
      exact ⟨fun _ => bad1 (opGain_1 (fun w => hp w.2.1)), fun w => absurd rfl w⟩
  · refine Wp.vc 400 [25] rfl ?_
    exact ⟨fun _ => bad1 (opGain_1 (fun w => hp w.1)), fun w => absurd rfl w⟩
theorem MU.worthK {d M pc np : Nat} {ls : XL} {st rest : XS} {B m n i a : Int} {h0 h : XH} {S : XSt} {T : XTw} {Q : XO → XH → Prop} (U : MU B m n h0 h S) (eT : sT S = some T) (i0 : 0 ≤ i ∧ i < tnh T) (a0 : 0 ≤ a ∧ a ≤ 9) (e : xstK M pc 0 st = some (np, some 9, 234, [.inr (.inr m), .inl i, .inl a], rest)) (hw : xwords rest ≤ 8) (k : ∀ h1, MU B m n h0 h1 S → Wp (d + 2) M np ls (.inl (wor T (sV S) i a) :: rest) h1 Q) : Wp (d + 2) M pc ls st h Q := by
  refine Wp.callR e hw ⟨true, U.tm⟩ (Q1 := fun v h' => v = some (.inl (wor T (sV S) i a)) ∧ MU B m n h0 h' S) ?_ (fun v h1 q => by
    obtain ⟨rfl, q1⟩ := q
    exact k h1 q1)
  have TO := (U.ok eT).1
  have VO := (U.ok eT).2
  have hn := TO.2.2.1
  have r := TO.2.2.2.2.1 i i0.1 i0.2
  have mr := xmutual_rg (sV S) (n := tnh T) ⟨by omega, by omega⟩
  refine WpM.of rfl (Wp.vc 400 [] rfl ?_)
  refine Wp.callR (j := 0) rfl (Nat.le_of_ble_eq_true rfl) ⟨true, U.tm⟩ (m_tries U.lay (by have := U.bnd; omega)) (fun v h2 q => ?_)
  obtain ⟨rfl, q1, q2, z3, z4⟩ := q
  have hv := (U.hasT eT).2.2.1
  have U2 : MU B m n h0 h2 S := U.scr (q2.mono (fun _ _ _ w => w.elim) (fun z _ w => ⟨by omega, by omega⟩)) z3 z4
  have tm := U2.tm
  obtain ⟨t5, f5⟩ := U2.lay.2.2.2.2.2.1
  obtain ⟨ne, TX, -⟩ := U2.hasT eT
  have c0 := TX.1.2.2
  have a0' := TX.2.1.1.1.2.2
  have v0 := (TX.2.2.2.1 i i0.1 i0.2).1
  have row : ∀ i : Int, 0 ≤ i → i < 7 → xar h2 (m + 5) i = sV S i := fun i h0 h1 => (q1 i h0 h1).trans (hv i h0 (by omega))
  have hr : RowOK (xar h2 (m + 5)) (tnh T) := fun i h0 h1 => by
    rw [row i h0 (by omega)]
    exact VO.row i h0 h1
  have pi := m_pairedIn (d := d) t5 (by omega) hn.2 hr (fun i h0 h1 => by rw [row i (by omega) h1]; exact VO.2.2.1 i h0 h1)
  rw [xmutual_congr hr (fun i h0 h1 => row i h0 (by omega))] at pi
  clear TX TO VO q1 q2 U hv row
  unfold wor
  refine Wp.vc 400 [] rfl ?_
  rw [v0, f5]
  refine ⟨isF tm rfl, isF c0 rfl, isA a0' i0.1 (by omega), isF tm rfl, ?_⟩
  refine Wp.callE (j := 0) rfl (Nat.le_of_ble_eq_true rfl) trivial pi ?_
  refine Wp.vc 400 [] rfl ?_
  refine Wp.callE (j := 0) rfl (Nat.le_of_ble_eq_true rfl) trivial (m_bit _ i ⟨by omega, by omega⟩ ⟨i0.1, by omega⟩) ?_
  by_cases c : xbit (xmutual (sV S) (tnh T)) i
  · rw [if_pos c, if_pos c]
    refine Wp.vc 400 [] rfl ?_
    exact ⟨fun w => absurd w (by decide), fun _ => ⟨by omega, by omega, trivial, _, rfl, rfl, U2⟩⟩
  · rw [if_neg c, if_neg c]
    refine Wp.vc 400 [] rfl ?_
    exact ⟨fun _ => ⟨by omega, by omega, trivial, _, rfl, rfl, U2⟩, fun w => absurd rfl w⟩
theorem MU.tenK {d M pc np : Nat} {ls : XL} {st rest : XS} {B m n i a j b : Int} {h0 h : XH} {S : XSt} {T : XTw} {Q : XO → XH → Prop} (U : MU B m n h0 h S) (eT : sT S = some T) (i0 : 0 ≤ i ∧ i < tnh T) (j0 : 0 ≤ j ∧ j < tnh T) (a0 : 0 ≤ a ∧ a ≤ 9) (b0 : 0 ≤ b ∧ b ≤ 9) (e : xstK M pc 0 st = some (np, some 9, 233, [.inr (.inr m), .inl i, .inl a, .inl j, .inl b], rest)) (hw : xwords rest ≤ 8) (k : ∀ h1, MU B m n h0 h1 S → Wp (d + 3) M np ls (.inl (ten T (sV S) i a j b) :: rest) h1 Q) : Wp (d + 3) M pc ls st h Q := by
  refine Wp.callR e hw ⟨true, U.tm⟩ (Q1 := fun v h' => v = some (.inl (ten T (sV S) i a j b)) ∧ MU B m n h0 h' S) ?_ (fun v h1 q => by
    obtain ⟨rfl, q1⟩ := q
    exact k h1 q1)
  have TO := (U.ok eT).1
  have hn := TO.2.2.1
  have ri := TO.2.2.2.2.1 i i0.1 i0.2
  have rj := TO.2.2.2.2.1 j j0.1 j0.2
  have lk := TO.2.1
  have w1 := wor_rg (V := sV S) TO i0 a0
  have w2 := wor_rg (V := sV S) TO j0 b0
  have tm := U.tm
  obtain ⟨ne, TX, -⟩ := U.hasT eT
  have c0 := TX.1.2.2
  have a0' := TX.2.1.1.1.2.2
  have v0 := (TX.2.2.2.1 i i0.1 i0.2).1
  have v1 := (TX.2.2.2.1 j j0.1 j0.2).1
  clear TX TO
  refine WpM.of rfl (Wp.vc 400 [] rfl ?_)
  rw [v0, v1]
  refine ⟨isF tm rfl, isF c0 rfl, isA a0' i0.1 (by omega), isF tm rfl, isF c0 rfl, isA a0' j0.1 (by omega), ⟨by omega, by omega⟩, ?_⟩
  refine U.worthK eT i0 a0 rfl (Nat.le_of_ble_eq_true rfl) (fun h1 U1 => ?_)
  refine Wp.vc 400 [] rfl ?_
  refine U1.worthK eT j0 b0 rfl (Nat.le_of_ble_eq_true rfl) (fun h2 U2 => ?_)
  have tm2 := U2.tm
  obtain ⟨ne2, TX, -⟩ := U2.hasT eT
  have c2 := TX.1.2.2
  have e134 : xfl h2 (xfl h2 m 69) 134 = tsc T 1 := TX.2.2.1.2.1
  have ed : (thv T 0 i + thv T 0 j).tdiv 2 = (thv T 0 i + thv T 0 j) / 2 := Int.tdiv_eq_ediv_of_nonneg (by omega)
  clear TX
  unfold ten
  refine Wp.vc 400 [] rfl ?_
  rw [e134]
  refine ⟨⟨by omega, by omega⟩, isF tm2 rfl, isF c2 rfl, fun c => ⟨isF tm2 rfl, isF c2 rfl, by omega, fun c3 => ⟨⟨by decide, Or.inr (by decide)⟩, trivial, ?_⟩, fun c3 => ⟨trivial, ?_⟩⟩, fun c => ⟨trivial, ?_⟩⟩
  · rw [if_neg (by omega), if_neg (by omega), ed]
    exact ⟨_, rfl, rfl, U2⟩
  · rw [if_neg (by omega), if_pos (by omega)]
    exact ⟨_, rfl, rfl, U2⟩
  · rw [if_pos (by omega)]
    exact ⟨_, rfl, rfl, U2⟩
theorem m_opGain {d : Nat} {h : XH} {B m n i a j b o : Int} {S : XSt} (R : Rm h B m S) (O : SOK n S) : WpM (d + 3) 232 [.inr (.inr m), .inl i, .inl a, .inl j, .inl b, .inl o] h (MAn B m h (.inl (opGain S i a j b o).1) (opGain S i a j b o).2) := by
  refine WpM.of rfl (MU.start R O rfl (fun g U => ?_))
  refine Wp.vc 400 [] rfl ?_
  have tm := U.tm
  have bad1 : opGain S i a j b o = sNo S 1 → Wp (d + 3) 232 26 [some (.inr (.inr m)), some (.inl i), some (.inl a), some (.inl j), some (.inl b), some (.inl o)] [] g (MAn B m h (.inl (opGain S i a j b o).1) (opGain S i a j b o).2) := by
    intro e
    rw [e]
    refine Wp.vc 400 [] rfl ?_
    exact U.ref (k := 1) rfl (fun _ => rfl) rfl
  have bad2 : opGain S i a j b o = sNo S 2 → Wp (d + 3) 232 53 [some (.inr (.inr m)), some (.inl i), some (.inl a), some (.inl j), some (.inl b), some (.inl o)] [] g (MAn B m h (.inl (opGain S i a j b o).1) (opGain S i a j b o).2) := by
    intro e
    rw [e]
    refine Wp.vc 400 [] rfl ?_
    exact U.ref (k := 2) rfl (fun _ => rfl) rfl
  refine U.hou rfl (Nat.zero_le _) (fun T e i0 => ?_) (fun hp => ?_)
  · refine Wp.vc 400 [26] rfl ?_
    first | refine ⟨fun _ => ?_, fun c => absurd (by decide) c⟩ | refine ⟨fun c => absurd c (by decide), fun _ => ?_⟩
    refine U.hou rfl (Nat.zero_le _) (fun T' e' j0 => ?_) (fun hp => ?_)
    · rw [e] at e'
      cases e'
      refine Wp.vc 400 [26, 32] rfl ?_
      first | refine ⟨fun _ => ?_, fun c => absurd (by decide) c⟩ | refine ⟨fun c => absurd c (by decide), fun _ => ?_⟩
      refine ⟨fun ne => ?_, fun c => bad1 (opGain_1 (fun w => c w.2.2))⟩
      have o1 := fun h => opGain_2 (a := a) (b := b) (o := o) e i0 ⟨j0, ne⟩ h
      have o2 := fun h => opGain_0 (a := a) (b := b) (o := o) e i0 ⟨j0, ne⟩ h
      have TO := (U.ok e).1
      refine Wp.vc 400 [] rfl ?_
      refine Wp.callE (j := 0) rfl (Nat.le_of_ble_eq_true rfl) trivial (m_in a 0 9) ?_
      by_cases ca : 0 ≤ a ∧ a ≤ 9
      · rw [if_pos ca]
        refine Wp.vc 400 [53] rfl ?_
        first | refine ⟨fun _ => ?_, fun c => absurd (by decide) c⟩ | refine ⟨fun c => absurd c (by decide), fun _ => ?_⟩
        refine Wp.callE (j := 0) rfl (Nat.le_of_ble_eq_true rfl) trivial (m_in b 0 9) ?_
        by_cases cb : 0 ≤ b ∧ b ≤ 9
        · rw [if_pos cb, show opGain S i a j b o = _ from o2 ⟨ca, cb⟩]
          by_cases co : o = 0
          · rw [if_pos co]
            have m1 := mul_rg ca (ten_rg (V := sV S) (a := a) (b := b) TO i0 j0)
            refine Wp.vc 400 [53] rfl ?_
            refine ⟨fun _ => ⟨fun _ => ?_, fun w => absurd co w⟩, fun w => absurd (show ¬ (1 : Int) = 0 by decide) w⟩
            refine U.tenK e i0 j0 ca cb rfl (Nat.le_of_ble_eq_true rfl) (fun h1 U1 => ?_)
            refine Wp.vc 400 [] rfl ?_
            refine ⟨⟨by omega, by omega⟩, ?_⟩
            exact U1.good rfl (fun _ => rfl) rfl
          · rw [if_neg co]
            have m1 := mul_rg cb (ten_rg (V := sV S) (a := b) (b := a) TO j0 i0)
            refine Wp.vc 400 [53] rfl ?_
            refine ⟨fun _ => ⟨fun w => absurd w co, fun _ => ?_⟩, fun w => absurd (show ¬ (1 : Int) = 0 by decide) w⟩
            refine U.tenK e j0 i0 cb ca rfl (Nat.le_of_ble_eq_true rfl) (fun h1 U1 => ?_)
            refine Wp.vc 400 [] rfl ?_
            refine ⟨⟨by omega, by omega⟩, ?_⟩
            exact U1.good rfl (fun _ => rfl) rfl
        · rw [if_neg cb]
          refine Wp.vc 400 [53] rfl ?_
          exact ⟨fun w => absurd rfl w, fun _ => bad2 (o1 (fun w => cb w.2))⟩
      · rw [if_neg ca]
        refine Wp.vc 400 [53] rfl ?_
        exact ⟨fun _ => bad2 (o1 (fun w => ca w.1)), fun w => absurd rfl w⟩
    · refine Wp.vc 400 [26] rfl ?_
      exact ⟨fun _ => bad1 (opGain_1 (fun w => hp w.2.1)), fun w => absurd rfl w⟩
  · refine Wp.vc 400 [26] rfl ?_
    exact ⟨fun _ => bad1 (opGain_1 (fun w => hp w.1)), fun w => absurd rfl w⟩
