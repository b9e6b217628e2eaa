/-! WALKS, 37: acts, WrongRoom -/
set_option maxRecDepth 100000
set_option maxHeartbeats 4000000
theorem XU.init {B s n : Int} {h : XH} {S : XSt} (R : Rx h B s S) (O : SOK n S) : XU B s n h h S := ⟨R, O, XFr.refl h, rfl, rfl⟩
theorem VOK.mono {T : XTw} {n n' : Int} {V : Int → Int} (h : n ≤ n') (O : VOK T n V) : VOK T n' V := ⟨O.1, O.2.1, O.2.2.1, O.2.2.2.1, fun q q0 q1 => ⟨(O.2.2.2.2 q q0 q1).1, (O.2.2.2.2 q q0 q1).2.1, by have := (O.2.2.2.2 q q0 q1).2.2; omega⟩⟩
theorem SOK.mono {n n' : Int} {S : XSt} (h : n ≤ n') (h64 : n' ≤ 64) (O : SOK n S) : SOK n' S := by
  obtain ⟨o1, o2, o3, o4, o5, o6⟩ := O
  exact ⟨fun T e => ⟨(o1 T e).1, (o1 T e).2.1.mono h, fun V hV => ((o1 T e).2.2.1 V hV).mono h, fun V hV => ((o1 T e).2.2.2 V hV).mono h⟩, o2, o3, o4, o5, by omega, h64⟩
theorem SOK.putV {n : Int} {S : XSt} {T : XTw} {V : Int → Int} (O : SOK n S) (e : sT S = some T) (VO : VOK T n V) : SOK n (sPutV S V) := by
  obtain ⟨o1, o2, o3, o4, o5, o6⟩ := O
  refine ⟨fun T' e' => ?_, o2, o3, o4, o5, o6⟩
  have e' : sT S = some T' := e'
  rw [e] at e'
  cases e'
  exact ⟨(o1 T e).1, VO, (o1 T e).2.2⟩
theorem swp_at {V : Int → Int} {i j k : Int} (h1 : k ≠ i) (h2 : k ≠ j) : swp V i j k = V k := by
  unfold swp
  rw [if_neg h2, if_neg h1]
theorem VOK.swpd {T : XTw} {n i j : Int} {V : Int → Int} (O : VOK T n V) (hn : tnh T ≤ 7) (i0 : 0 ≤ i ∧ i < tnh T) (j0 : 0 ≤ j ∧ j < tnh T) (c : canEx V i j) : VOK T n (swp V i j) := by
  obtain ⟨o1, o2, o3, o4, o5⟩ := O
  obtain ⟨c1, c2, c3, c4, c5⟩ := c
  refine ⟨fun k k0 k1 => ?_, fun a b a0 a1 b0 b1 => ?_, fun k k0 k1 => ?_, ?_, fun q q0 q1 => ?_⟩
  · unfold swp
    split
    · next e => rw [e]; rcases o1 i i0.1 i0.2 with w | w
                · exact Or.inl w
                · exact Or.inr ⟨w.1, w.2.1, c4⟩
    · split
      · next e => rw [e]; rcases o1 j j0.1 j0.2 with w | w
                  · exact Or.inl w
                  · exact Or.inr ⟨w.1, w.2.1, c5⟩
      · exact o1 k k0 k1
  · have ij := o2 i j i0.1 i0.2 j0.1 j0.2
    have ai := o2 a i a0 a1 i0.1 i0.2
    have aj := o2 a j a0 a1 j0.1 j0.2
    have ib := o2 i b i0.1 i0.2 b0 b1
    have jb := o2 j b j0.1 j0.2 b0 b1
    have ji := o2 j i j0.1 j0.2 i0.1 i0.2
    have ab := o2 a b a0 a1 b0 b1
    unfold swp
    intro e ne
    by_cases a1' : a = j <;> by_cases a2' : a = i <;> by_cases b1' : b = j <;> by_cases b2' : b = i <;> simp only [a1', a2', b1', b2', if_true, if_false] at e ne ⊢ <;> omega
  · rw [swp_at (by omega) (by omega)]
    exact o3 k k0 k1
  · rw [swp_at (by omega) (by omega)]
    exact o4
  · rw [swp_at (by omega) (by omega), swp_at (by omega) (by omega)]
    exact o5 q q0 q1
theorem xor7_dec : ∀ (n : Fin 8) (u : Fin 128) (i : Fin 7), i.val < n.val → 0 ≤ xxor (u.val : Int) (1 * 2 ^ i.val) ∧ xxor (u.val : Int) (1 * 2 ^ i.val) < 128 ∧ ∀ k : Fin 7, n.val ≤ k.val → ¬ xbit (u.val : Int) (k.val : Int) → ¬ xbit (xxor (u.val : Int) (1 * 2 ^ i.val)) (k.val : Int) := by decide +kernel
def shutV (V : Int → Int) (i : Int) : Int → Int := fun k => if k = 7 then xxor (V 7) (1 * 2 ^ i.toNat) else V k
theorem VOK.shut {T : XTw} {n i : Int} {V : Int → Int} (O : VOK T n V) (hn : 0 ≤ tnh T ∧ tnh T ≤ 7) (i0 : 0 ≤ i ∧ i < tnh T) : VOK T n (shutV V i) := by
  obtain ⟨o1, o2, o3, o4, o5⟩ := O
  have ne : ∀ k : Int, k ≠ 7 → shutV V i k = V k := fun k hk => if_neg hk
  refine ⟨fun k k0 k1 => ?_, fun a b a0 a1 b0 b1 => ?_, fun k k0 k1 => ?_, ?_, fun q q0 q1 => ?_⟩
  · rw [ne k (by omega)]; exact o1 k k0 k1
  · rw [ne a (by omega), ne b (by omega)]; exact o2 a b a0 a1 b0 b1
  · rw [ne k (by omega)]; exact o3 k k0 k1
  · have d := xor7_dec ⟨(tnh T).toNat, by omega⟩ ⟨(V 7).toNat, by omega⟩ ⟨i.toNat, by omega⟩ (by show i.toNat < (tnh T).toNat; omega)
    have e1 : (((V 7).toNat : Nat) : Int) = V 7 := by omega
    simp only [e1] at d
    rw [show shutV V i 7 = xxor (V 7) (1 * 2 ^ i.toNat) from if_pos rfl]
    refine ⟨d.1, d.2.1, fun k k0 k1 => ?_⟩
    have e3 : ((k.toNat : Nat) : Int) = k := by omega
    have := d.2.2 ⟨k.toNat, by omega⟩ (by show (tnh T).toNat ≤ k.toNat; omega)
    simp only [e3] at this
    exact this (o4.2.2 k k0 k1)
  · rw [ne _ (by omega), ne _ (by omega)]; exact o5 q q0 q1
def goV (V : Int → Int) (p g t : Int) : Int → Int := fun k => if k = 8 + p then g else if k = 12 + p then t else V k
theorem VOK.go {T : XTw} {n p g t : Int} {V : Int → Int} (O : VOK T n V) (hn : 0 ≤ tnh T ∧ tnh T ≤ 7) (hp : tpm T ≤ 4) (p0 : 0 ≤ p ∧ p < tpm T) (g0 : 0 ≤ g ∧ g < tnh T) (t0 : 0 ≤ t ∧ t ≤ 1000 * (n + 1)) (n0 : 0 ≤ n) : VOK T (n + 1) (goV V p g t) := by
  obtain ⟨o1, o2, o3, o4, o5⟩ := O
  have ne : ∀ k : Int, k < 8 → goV V p g t k = V k := fun k hk => by unfold goV; rw [if_neg (by omega), if_neg (by omega)]
  refine ⟨fun k k0 k1 => ?_, fun a b a0 a1 b0 b1 => ?_, fun k k0 k1 => ?_, ?_, fun q q0 q1 => ?_⟩
  · rw [ne k (by omega)]; exact o1 k k0 k1
  · rw [ne a (by omega), ne b (by omega)]; exact o2 a b a0 a1 b0 b1
  · rw [ne k (by omega)]; exact o3 k k0 k1
  · rw [ne 7 (by decide)]; exact o4
  · have h := o5 q q0 q1
    unfold goV
    by_cases c : q = p
    · subst c
      rw [if_pos rfl, if_neg (by omega), if_pos rfl]
      exact ⟨g0, t0⟩
    · rw [if_neg (by omega), if_neg (by omega), if_neg (by omega), if_neg (by omega)]
      omega
theorem XU.yesK {d M pc np : Nat} {ls : XL} {st rest : XS} {B s n k : Int} {h0 h : XH} {S : XSt} {Q : XO → XH → Prop} (U : XU B s n h0 h S) (k4 : k ≠ 4) (e : xstK M pc 0 st = some (np, some 0, 60, [.inr (.inr s), .inl k], rest)) (hw : xwords rest ≤ 8) (c : ∀ h1, XU B s n h0 h1 (sSet S k (-1)) → Wp (d + 2) M np ls (.inl (if k = 0 then 1 else 0) :: rest) h1 Q) : Wp (d + 2) M pc ls st h Q :=
  Wp.callR e hw ⟨true, U.ts⟩ (x_yes U.1 U.2.1 k4) (fun v h1 q => by
    obtain ⟨rfl, R1, p1, z1, z2⟩ := q
    exact c h1 ⟨R1, U.2.1.set, U.2.2.1.trans p1 (fun z f _ w => w46_xw z f w) (fun _ _ w => w.elim), z1.trans U.2.2.2.1, z2.trans U.2.2.2.2⟩)
def sNoB (S : XSt) (k : Int) : Int × XSt := (0, sSet S k (-1))
def sYesB (S : XSt) (V : Int → Int) : Int × XSt := (1, sAct S V)
def opExchange (S : XSt) (i j : Int) : Int × XSt := match sT S with
  | none => sNoB S 1
  | some T => if (0 ≤ i ∧ i < tnh T) ∧ (0 ≤ j ∧ j < tnh T) ∧ i ≠ j then (if canEx (sV S) i j then sYesB S (swp (sV S) i j) else sNoB S 5) else sNoB S 1
theorem opExchange_no {S : XSt} {i j : Int} (h : ¬ (isHou S i ∧ isHou S j ∧ i ≠ j)) : opExchange S i j = sNoB S 1 := by
  unfold opExchange
  cases e : sT S with
  | none => rfl
  | some T => exact if_neg (fun w => h ⟨⟨T, e, w.1⟩, ⟨T, e, w.2.1⟩, w.2.2⟩)
theorem opExchange_5 {S : XSt} {i j : Int} {T : XTw} (e : sT S = some T) (i0 : 0 ≤ i ∧ i < tnh T) (j0 : 0 ≤ j ∧ j < tnh T) (ne : i ≠ j) (c : ¬ canEx (sV S) i j) : opExchange S i j = sNoB S 5 := by
  unfold opExchange
  rw [e]
  exact (if_pos ⟨i0, j0, ne⟩).trans (if_neg c)
theorem opExchange_y {S : XSt} {i j : Int} {T : XTw} (e : sT S = some T) (i0 : 0 ≤ i ∧ i < tnh T) (j0 : 0 ≤ j ∧ j < tnh T) (ne : i ≠ j) (c : canEx (sV S) i j) : opExchange S i j = sYesB S (swp (sV S) i j) := by
  unfold opExchange
  rw [e]
  exact (if_pos ⟨i0, j0, ne⟩).trans (if_pos c)
theorem x_opExchange {d : Nat} {h : XH} {B s n i j : Int} {S : XSt} (R : Rx h B s S) (O : SOK n S) : WpM (d + 3) 59 [.inr (.inr s), .inl i, .inl j] h (XAn B s h (.inl (opExchange S i j).1) (opExchange S i j).2) := by
  have U := XU.init R O
  have ts := U.ts
  have bad : ∀ k : Int, k ≠ 4 → k ≠ 0 → opExchange S i j = sNoB S k → Wp (d + 3) 59 43 [some (.inr (.inr s)), some (.inl i), some (.inl j)] [.inl k, .inr (.inr s)] h (XAn B s h (.inl (opExchange S i j).1) (opExchange S i j).2) := by
    intro k k4 k0 e
    rw [e]
    refine XU.yesK (d := d + 1) U k4 rfl (Nat.le_of_ble_eq_true rfl) (fun h1 U1 => ?_)
    rw [if_neg k0]
    refine Wp.vc 400 [] rfl ?_
    exact ⟨fun w => absurd rfl w, fun _ => ⟨⟨by decide, by decide⟩, U1.ret⟩⟩
  refine WpM.of rfl (Wp.vc 400 [] rfl ?_)
  refine XU.hou (d := d + 1) U rfl (Nat.le_of_ble_eq_true rfl) (fun T e i0 => ?_) (fun hp => ?_)
  · refine Wp.vc 400 [22] rfl ?_
    first | refine ⟨fun _ => ?_, fun c => absurd (by decide) c⟩ | refine ⟨fun c => absurd c (by decide), fun _ => ?_⟩
    refine XU.hou (d := d + 1) U rfl (Nat.le_of_ble_eq_true rfl) (fun T' e' j0 => ?_) (fun hp => ?_)
    · rw [e] at e'
      cases e'
      obtain ⟨RT, hv, -⟩ := U.rooms e
      have hn := (U.ok e).1.2.2.1
      have VO := (U.ok e).2
      have cx := x_canExchange (d := d + 2) U.r5 (h := i) (g := j) ⟨i0.1, by omega⟩ ⟨j0.1, by omega⟩
      have eqv := canEx_congr (V := xar h (s + 5 + 1)) (W := sV S) hv i0 j0
      have f9 := U.f9
      have tR := RT.1.2.1
      refine Wp.vc 400 [22, 43] rfl ?_
      rw [f9]
      first | refine ⟨fun _ => ?_, fun c => absurd (by decide) c⟩ | refine ⟨fun c => absurd c (by decide), fun _ => ?_⟩
      refine ⟨fun ne => ⟨isF ts rfl, ?_⟩, fun c => ?_⟩
      · refine Wp.callE (j := 0) rfl (Nat.le_of_ble_eq_true rfl) ⟨true, tR⟩ cx ?_
        by_cases c : canEx (sV S) i j
        · rw [if_pos (eqv.mpr c), opExchange_y e i0 j0 ne c]
          refine Wp.vc 400 [43] rfl ?_
          refine ⟨fun _ => ?_, fun w => absurd (show ¬ (1 : Int) = 0 by decide) w⟩
          refine XU.yesK (d := d + 1) (k := 0) U (by decide) rfl (Nat.le_of_ble_eq_true rfl) (fun h1 U1 => ?_)
          rw [if_pos rfl]
          refine Wp.vc 400 [] rfl ?_
          refine ⟨fun _ => ?_, fun w => absurd (show ¬ (1 : Int) = 0 by decide) w⟩
          refine XU.keepK (d := d + 1) U1 e rfl (Nat.le_of_ble_eq_true rfl) (fun h2 U2 W2 => ?_)
          obtain ⟨-, hv2, -, -, SN2⟩ := U2.rooms e
          have ts2 := U2.ts
          have b2 := U2.bnd
          have ex := x_exchange_ (d := d + 2) U2.r5 (h := i) (g := j) ⟨i0.1, by omega⟩ ⟨j0.1, by omega⟩
          refine Wp.vc 400 [] rfl ?_
          rw [U2.f9]
          refine ⟨isF ts2 rfl, ?_⟩
          refine Wp.callE (j := 0) rfl (Nat.le_of_ble_eq_true rfl) ⟨true, U2.r5.2.1⟩ ex ?_
          have p3 : XFr (fun z f => z = s + 5 ∧ f = 44) (fun z => s + 6 ≤ z ∧ z ≤ s + 8) h2 (xputa (xputa h2 (s + 5 + 1) i (xar h2 (s + 5 + 1) j)) (s + 5 + 1) j (xar h2 (s + 5 + 1) i)) := ((XFr.refl h2).puta (Or.inr ⟨by omega, by omega⟩)).puta (Or.inr ⟨by omega, by omega⟩)
          have U3 := U2.putV e p3 rfl rfl (V := swp (sV S) i j) ⟨SN2.1, fun k k0 k1 => xputa_swp hv2 i0 j0 ⟨k0, k1⟩, SN2.2.2.1.trans (swp_at (by omega) (by omega)).symm, fun q q0 q1 => by
            rw [xar_puta, if_neg (fun w => by omega), xar_puta, if_neg (fun w => by omega), xar_puta, if_neg (fun w => by omega), xar_puta, if_neg (fun w => by omega), swp_at (by omega) (by omega), swp_at (by omega) (by omega)]
            exact SN2.2.2.2 q q0 q1⟩ (SOK.putV (T := T) U2.2.1 e (VO.swpd hn.2 i0 j0 c))
          have W3 : SnapX (xputa (xputa h2 (s + 5 + 1) i (xar h2 (s + 5 + 1) j)) (s + 5 + 1) j (xar h2 (s + 5 + 1) i)) T (s + 9) (xfl h2 s 3) (sV S) := W2.keep p3 (by omega) (fun w => by omega) (fun w => by omega) (fun w => by omega) (fun w => by omega) (fun w => by omega)
          refine Wp.vc 400 [] rfl ?_
          refine U3.doneK (d := d + 1) e W3 VO rfl (Nat.le_of_ble_eq_true rfl) (fun h4 U4 => ?_)
          refine Wp.vc 400 [] rfl ?_
          exact ⟨⟨by decide, by decide⟩, U4.ret⟩
        · rw [if_neg (fun w => c (eqv.mp w))]
          refine Wp.vc 400 [43] rfl ?_
          exact ⟨fun w => absurd rfl w, fun _ => bad 5 (by decide) (by decide) (opExchange_5 e i0 j0 ne c)⟩
      · refine Wp.vc 400 [43] rfl ?_
        exact bad 1 (by decide) (by decide) (opExchange_no (fun w => c w.2.2))
    · refine Wp.vc 400 [43] rfl ?_
      exact ⟨fun _ => bad 1 (by decide) (by decide) (opExchange_no (fun w => hp w.2.1)), fun w => absurd rfl w⟩
  · refine Wp.vc 400 [43] rfl ?_
    exact ⟨fun _ => bad 1 (by decide) (by decide) (opExchange_no (fun w => hp w.1)), fun w => absurd rfl w⟩
def opShut (S : XSt) (i b : Int) : Int × XSt := match sT S with
  | none => sNoB S 1
  | some T => if 0 ≤ i ∧ i < tnh T then (if (if xbit (sV S 7) i then 1 else 0) = b then sNoB S 5 else sYesB S (shutV (sV S) i)) else sNoB S 1
theorem opShut_no {S : XSt} {i b : Int} (h : ¬ isHou S i) : opShut S i b = sNoB S 1 := by
  unfold opShut
  cases e : sT S with
  | none => rfl
  | some T => exact if_neg (fun w => h ⟨T, e, w⟩)
theorem opShut_5 {S : XSt} {i b : Int} {T : XTw} (e : sT S = some T) (i0 : 0 ≤ i ∧ i < tnh T) (c : (if xbit (sV S 7) i then 1 else 0) = b) : opShut S i b = sNoB S 5 := by
  unfold opShut
  rw [e]
  exact (if_pos i0).trans (if_pos c)
theorem opShut_y {S : XSt} {i b : Int} {T : XTw} (e : sT S = some T) (i0 : 0 ≤ i ∧ i < tnh T) (c : ¬ (if xbit (sV S 7) i then 1 else 0) = b) : opShut S i b = sYesB S (shutV (sV S) i) := by
  unfold opShut
  rw [e]
  exact (if_pos i0).trans (if_neg c)
theorem x_opShut {d : Nat} {h : XH} {B s n i b : Int} {S : XSt} (R : Rx h B s S) (O : SOK n S) : WpM (d + 3) 63 [.inr (.inr s), .inl i, .inl b] h (XAn B s h (.inl (opShut S i b).1) (opShut S i b).2) := by
  have U := XU.init R O
  have ts := U.ts
  have bad : ∀ k : Int, k ≠ 4 → k ≠ 0 → opShut S i b = sNoB S k → Wp (d + 3) 63 33 [some (.inr (.inr s)), some (.inl i), some (.inl b)] [.inl k, .inr (.inr s)] h (XAn B s h (.inl (opShut S i b).1) (opShut S i b).2) := by
    intro k k4 k0 e
    rw [e]
    refine XU.yesK (d := d + 1) U k4 rfl (Nat.le_of_ble_eq_true rfl) (fun h1 U1 => ?_)
    rw [if_neg k0]
    refine Wp.vc 400 [] rfl ?_
    exact ⟨fun w => absurd rfl w, fun _ => ⟨⟨by decide, by decide⟩, U1.ret⟩⟩
  refine WpM.of rfl (Wp.vc 400 [] rfl ?_)
  refine XU.hou (d := d + 1) U rfl (Nat.le_of_ble_eq_true rfl) (fun T e i0 => ?_) (fun hp => ?_)
  · obtain ⟨RT, hv, -, -, SN⟩ := U.rooms e
    have hn := (U.ok e).1.2.2.1
    have VO := (U.ok e).2
    have h7 := VO.2.2.2.1
    have f9 := U.f9
    have tR := RT.1.2.1
    have f44 := SN.2.2.1
    refine Wp.vc 400 [33] rfl ?_
    rw [f9, f44]
    refine ⟨fun _ => ⟨isF ts rfl, isF tR rfl, ?_⟩, fun w => absurd (show ¬ (1 : Int) = 0 by decide) w⟩
    refine Wp.callE (j := 0) rfl (Nat.le_of_ble_eq_true rfl) trivial (x_has (sV S 7) i ⟨by omega, by omega⟩ ⟨i0.1, by omega⟩) ?_
    refine Wp.vc 400 [33] rfl ?_
    refine ⟨fun c => ?_, fun c => bad 5 (by decide) (by decide) (opShut_5 e i0 (Decidable.of_not_not c))⟩
    rw [opShut_y e i0 c]
    refine XU.yesK (d := d + 1) (k := 0) U (by decide) rfl (Nat.le_of_ble_eq_true rfl) (fun h1 U1 => ?_)
    rw [if_pos rfl]
    refine Wp.vc 400 [] rfl ?_
    refine ⟨fun _ => ?_, fun w => absurd (show ¬ (1 : Int) = 0 by decide) w⟩
    refine XU.keepK (d := d + 1) U1 e rfl (Nat.le_of_ble_eq_true rfl) (fun h2 U2 W2 => ?_)
    obtain ⟨-, hv2, -, -, SN2⟩ := U2.rooms e
    have ts2 := U2.ts
    have b2 := U2.bnd
    have tR2 := U2.r5.2.1
    have x2 := x2k (k := i) ⟨i0.1, by omega⟩
    have f44' : xfl h2 (s + 5) 44 = sV S 7 := SN2.2.2.1
    have p3 : XFr (fun z f => z = s + 5 ∧ f = 44) (fun z => s + 6 ≤ z ∧ z ≤ s + 8) h2 (xputf h2 (s + 5) 44 (xxor (sV S 7) (1 * 2 ^ i.toNat))) := (XFr.refl h2).putf (Or.inr ⟨rfl, rfl⟩)
    have U3 := U2.putV e p3 rfl rfl (V := shutV (sV S) i) ⟨by rw [xfl_putf, if_neg (by omega), xfl_putf, if_neg (by omega)]; exact SN2.1, fun k k0 k1 => (hv2 k k0 k1).trans (if_neg (by omega)).symm, by rw [xfl_putf, if_pos ⟨rfl, rfl⟩]; exact (if_pos rfl).symm, fun q q0 q1 => ⟨(SN2.2.2.2 q q0 q1).1.trans (if_neg (by omega)).symm, (SN2.2.2.2 q q0 q1).2.trans (if_neg (by omega)).symm⟩⟩ (SOK.putV (T := T) U2.2.1 e (VO.shut ⟨by omega, hn.2⟩ i0))
    have W3 : SnapX (xputf h2 (s + 5) 44 (xxor (sV S 7) (1 * 2 ^ i.toNat))) T (s + 9) (xfl (xputf h2 (s + 5) 44 (xxor (sV S 7) (1 * 2 ^ i.toNat))) s 3) (sV S) := by
      rw [xfl_putf, if_neg (by omega)]
      exact W2.keep p3 (by omega) (fun w => by omega) (fun w => by omega) (fun w => by omega) (fun w => by omega) (fun w => by omega)
    refine Wp.vc 400 [] rfl ?_
    rw [U2.f9, f44']
    refine ⟨isF ts2 rfl, isF tR2 rfl, ⟨i0.1, by omega, x2.1, x2.2⟩, isW tR2 rfl, ?_⟩
    refine U3.doneK (d := d + 1) e W3 VO rfl (Nat.le_of_ble_eq_true rfl) (fun h4 U4 => ?_)
    refine Wp.vc 400 [] rfl ?_
    exact ⟨⟨by decide, by decide⟩, U4.ret⟩
  · refine Wp.vc 400 [33] rfl ?_
    exact ⟨fun w => absurd rfl w, fun _ => bad 1 (by decide) (by decide) (opShut_no hp)⟩
def opWaits (S : XSt) (p m : Int) : Int × XSt := onP S p fun _ => if 1 ≤ m ∧ m ≤ 999 then (sV S (12 + p) + m, sAct S (goV (sV S) p (sV S (8 + p)) (sV S (12 + p) + m))) else sNo S 2
/-- minutes to go at once; 0 -/
def goM (T : XTw) (V : Int → Int) (p g : Int) : Int := if (V (V (8 + p)) = g ∧ vOpen T V (V (8 + p)) (V (12 + p))) ∧ (tst T (V (8 + p)) g = 0 ∨ tsc T 0 < tst T (V (8 + p)) g) then tsc T 0 else tst T (V (8 + p)) g
def opGo (S : XSt) (p g : Int) : Int × XSt := onP S p fun T => if 0 ≤ g ∧ g < tnh T then (if goM T (sV S) p g = 0 then sNo S 5 else (sV S (12 + p) + goM T (sV S) p g, sAct S (goV (sV S) p g (sV S (12 + p) + goM T (sV S) p g)))) else sNo S 1
/-- rooms are written: where one is, his minutes -/
theorem XU.goK {B s n p g t : Int} {h0 h : XH} {S : XSt} {T : XTw} (U : XU B s n h0 h S) (e : sT S = some T) (p0 : 0 ≤ p ∧ p < tpm T) (g0 : 0 ≤ g ∧ g < tnh T) (t0 : 0 ≤ t ∧ t ≤ 1000 * (n + 1)) (n63 : n ≤ 63) {k : XH} (p3 : XFr (fun z f => z = s + 5 ∧ f = 44) (fun z => s + 6 ≤ z ∧ z ≤ s + 8) h k) (zz : xsz k = xsz h ∧ xsl k = xsl h) (fl : ∀ a f, xfl k a f = xfl h a f) (a1 : ∀ q, xar k (s + 5 + 1) q = xar h (s + 5 + 1) q) (a2 : ∀ q, xar k (s + 5 + 2) q = if q = p then g else xar h (s + 5 + 2) q) (a3 : ∀ q, xar k (s + 5 + 3) q = if q = p then t else xar h (s + 5 + 3) q) (W : SnapX h T (s + 9) (xfl h s 3) (sV S)) : XU B s (n + 1) h0 k (sPutV S (goV (sV S) p g t)) ∧ SnapX k T (s + 9) (xfl k s 3) (sV S) := by
  have hn := (U.ok e).1.2.2.1
  have hp := (U.ok e).1.2.2.2.1
  have VO := (U.ok e).2
  have n0 : 0 ≤ n := U.2.1.2.2.2.2.2.1
  obtain ⟨-, hv, -, -, SN⟩ := U.rooms e
  have bnd := U.bnd
  have ne : ∀ q : Int, q < 8 → goV (sV S) p g t q = sV S q := fun q hq => by unfold goV; rw [if_neg (by omega), if_neg (by omega)]
  refine ⟨U.putV e p3 zz.1 zz.2 (V := goV (sV S) p g t) ⟨?_, fun q q0 q1 => ?_, ?_, fun q q0 q1 => ?_⟩ (SOK.putV (T := T) (SOK.mono (by omega) (by omega) U.2.1) e (VO.go ⟨by omega, hn.2⟩ hp.2 p0 g0 t0 n0)), ?_⟩
  · rw [fl, fl]; exact SN.1
  · rw [ne q (by omega), ← hv q q0 q1, a1]
  · rw [fl, ne 7 (by decide)]; exact SN.2.2.1
  · have s4 := SN.2.2.2 q q0 q1
    rw [a2, a3]
    unfold goV
    by_cases c : q = p
    · rw [if_pos c, if_pos c, if_pos (by omega), if_neg (by omega), if_pos (by omega)]
      exact ⟨rfl, rfl⟩
    · rw [if_neg c, if_neg c, if_neg (by omega), if_neg (by omega), if_neg (by omega), if_neg (by omega)]
      exact s4
  · rw [fl]
    exact W.keep p3 (by omega) (fun w => by omega) (fun w => by omega) (fun w => by omega) (fun w => by omega) (fun w => by omega)
