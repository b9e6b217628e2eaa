/-! WALKS, 31: net, debtor -/
set_option maxRecDepth 100000
set_option maxHeartbeats 4000000
theorem mul_rg {a b A B : Int} (h1 : 0 ≤ a ∧ a ≤ A) (h2 : 0 ≤ b ∧ b ≤ B) : 0 ≤ a * b ∧ a * b ≤ A * B := ⟨Int.mul_nonneg h1.1 h2.1, Int.mul_le_mul h1.2 h2.2 h2.1 (Int.le_trans h1.1 h1.2)⟩
theorem x_opNet {d : Nat} {h : XH} {B s n i lo : Int} {S : XSt} (R : Rx h B s S) (O : SOK n S) : WpM (d + 112) 41 [.inr (.inr s), .inl i, .inl lo] h (XAn B s h (.inr (.inl (opNet S i lo).1)) (opNet S i lo).2) := by
  refine WpM.of rfl (Wp.vc 400 [] rfl ?_)
  refine XU.anew R O rfl (Nat.zero_le _) (fun h1 U => ?_)
  refine Wp.vc 400 [] rfl ?_
  refine XU.hou (d := d + 110) U rfl (Nat.zero_le _) (fun T e i0 => ?_) (fun hp => ?_)
  · rw [opNet_yes (S := S) e i0]
    have TO := (U.ok e).1
    have hn := TO.2.2.1
    have r := xlender_rg (sV S) i (show 0 ≤ tnh T by omega)
    have rg := owpa_rg (V := sV S) (i := i) TO
    have ri := TO.2.2.2.2.1 i i0.1 i0.2
    have ts := U.ts
    obtain ⟨RT, hv, -, TX, -⟩ := U.rooms e
    have f9 := U.f9
    have ct := TX.1.2.2
    have ch := TX.2.1.1.2.2
    have vi := hv i i0.1 i0.2
    have f40 := RT.1.2.2.2.2.2.1
    have tR := RT.1.2.1
    have tW := RT.1.2.2.1
    obtain ⟨hs, ehs⟩ : ∃ x, x = (if sV S i = -2 then 0 else thv T 2 i) := ⟨_, rfl⟩
    have hsr : 0 ≤ hs ∧ hs ≤ 999 := by rw [ehs]; split <;> omega
    have m1 := mul_rg hsr (show 0 ≤ paB T (sV S) i ∧ paB T (sV S) i ≤ 10 by omega)
    have m2 := mul_rg rg.1 (show 0 ≤ thv T 0 i + 1 ∧ thv T 0 i + 1 ≤ 10 by omega)
    have m3 := mul_rg (show 0 ≤ thv T 0 i + 1 ∧ thv T 0 i + 1 ≤ 10 by omega) (show 0 ≤ paB T (sV S) i ∧ paB T (sV S) i ≤ 10 by omega)
    have m4 : 0 < (thv T 0 i + 1) * paB T (sV S) i := Int.mul_pos (by omega) (by omega)
    rw [← ehs]
    have lw := x_lowest (d := d + 1) (h := h1) (lo := lo) (up := hs * paB T (sV S) i - owB T (sV S) i * (thv T 0 i + 1)) (down := (thv T 0 i + 1) * paB T (sV S) i) ⟨m4, by omega⟩ ⟨by omega, by omega⟩
    have sh := x_shares (d := d + 111) U e i0
    have at104 : Wp (d + 112) 41 104 [some (.inr (.inr s)), some (.inl i), some (.inl lo), some (.inl (xlender (sV S) (tnh T) i)), some (.inr (.inl hs)), none, some (.inr (.inl (owB T (sV S) i))), none, none, none] [.inr (.inl (paB T (sV S) i))] h1 (XAn B s h (.inr (.inl (sOk S (low (hs * paB T (sV S) i - owB T (sV S) i * (thv T 0 i + 1)) ((thv T 0 i + 1) * paB T (sV S) i) lo)).1)) (sOk S (low (hs * paB T (sV S) i - owB T (sV S) i * (thv T 0 i + 1)) ((thv T 0 i + 1) * paB T (sV S) i) lo)).2) := by
      refine Wp.vc 400 [] rfl ?_
      refine ⟨by omega, ?_⟩
      refine Wp.callE (j := 0) rfl (Nat.le_of_ble_eq_true rfl) ⟨true, ts⟩ sh ?_
      refine Wp.vc 400 [] rfl ?_
      refine ⟨by omega, by omega, ?_⟩
      refine Wp.callE (j := 0) rfl (Nat.le_of_ble_eq_true rfl) ⟨true, ts⟩ sh ?_
      refine Wp.vc 400 [] rfl ?_
      refine ⟨by omega, ?_⟩
      refine Wp.callE (j := 0) rfl (Nat.le_of_ble_eq_true rfl) trivial lw ?_
      refine Wp.vc 400 [] rfl ?_
      exact ⟨trivial, U.ret⟩
    have at86 : Wp (d + 112) 41 86 [some (.inr (.inr s)), some (.inl i), some (.inl lo), some (.inl (xlender (sV S) (tnh T) i)), some (.inr (.inl hs)), none, none, none, none, none] [.inr (.inl (owB T (sV S) i))] h1 (XAn B s h (.inr (.inl (sOk S (low (hs * paB T (sV S) i - owB T (sV S) i * (thv T 0 i + 1)) ((thv T 0 i + 1) * paB T (sV S) i) lo)).1)) (sOk S (low (hs * paB T (sV S) i - owB T (sV S) i * (thv T 0 i + 1)) ((thv T 0 i + 1) * paB T (sV S) i) lo)).2) := by
      refine Wp.vc 400 [104] rfl ?_
      refine ⟨fun c => ?_, fun c => ?_⟩
      · rw [show paB T (sV S) i = thv T 0 (xlender (sV S) (tnh T) i) + 1 from if_neg c] at at104
        rw [show paB T (sV S) i = thv T 0 (xlender (sV S) (tnh T) i) + 1 from if_neg c]
        refine Wp.callE (j := 0) rfl (Nat.le_of_ble_eq_true rfl) ⟨true, ts⟩ (x_shares U e (r.resolve_left c)) ?_
        refine Wp.vc 400 [104] rfl ?_
        exact at104
      · rw [show paB T (sV S) i = 1 from if_pos (Decidable.of_not_not c)] at at104
        rw [show paB T (sV S) i = 1 from if_pos (Decidable.of_not_not c)]
        exact at104
    have at61 : Wp (d + 112) 41 61 [some (.inr (.inr s)), some (.inl i), some (.inl lo), some (.inl (xlender (sV S) (tnh T) i)), none, none, none, none, none, none] [.inr (.inl hs)] h1 (XAn B s h (.inr (.inl (sOk S (low (hs * paB T (sV S) i - owB T (sV S) i * (thv T 0 i + 1)) ((thv T 0 i + 1) * paB T (sV S) i) lo)).1)) (sOk S (low (hs * paB T (sV S) i - owB T (sV S) i * (thv T 0 i + 1)) ((thv T 0 i + 1) * paB T (sV S) i) lo)).2) := by
      clear at104
      refine Wp.vc 400 [86] rfl ?_
      refine ⟨fun c => ?_, fun c => ?_⟩
      · have r := r.resolve_left c
        have HX := TX.2.2.2.1 _ r.1 r.2
        have ca := HX.1.2.2
        have e3 := HX.2.1.2.2.2.1
        rw [show owB T (sV S) i = thv T 2 (xlender (sV S) (tnh T) i) from if_neg c] at at86
        rw [show owB T (sV S) i = thv T 2 (xlender (sV S) (tnh T) i) from if_neg c, e3]
        exact ⟨isF ts rfl, isF ct rfl, isR ch (by decide) r.1 (by omega), isF ca rfl, at86⟩
      · rw [show owB T (sV S) i = 0 from if_pos (Decidable.of_not_not c)] at at86
        rw [show owB T (sV S) i = 0 from if_pos (Decidable.of_not_not c)]
        exact at86
    clear at86 at104
    refine Wp.vc 400 [] rfl ?_
    rw [f9]
    refine ⟨fun _ => ⟨isF ts rfl, ?_⟩, fun w => absurd (show ¬ (1 : Int) = 0 by decide) w⟩
    refine XU.lenderK (d := d + 111) U e rfl (Nat.le_of_ble_eq_true rfl) ?_
    show Wp _ _ _ _ (.inl (xlender (sV S) (tnh T) i) :: _) _ _
    have HX := TX.2.2.2.1 i i0.1 i0.2
    have ca := HX.1.2.2
    have e3 := HX.2.1.2.2.2.1
    clear TX HX
    refine Wp.vc 400 [61] rfl ?_
    rw [f9, f40, vi]
    refine ⟨isF ts rfl, isF tR rfl, isA tW i0.1 (by omega), fun c => ?_, fun c => ?_⟩
    · have c : ¬ sV S i = -2 := c
      rw [if_neg c] at ehs
      rw [e3]
      subst ehs
      exact ⟨isF ts rfl, isF ct rfl, isR ch (by decide) i0.1 (by omega), isF ca rfl, at61⟩
    · have c : ¬¬ sV S i = -2 := c
      rw [if_pos (Decidable.of_not_not c)] at ehs
      subst ehs
      exact at61
  · rw [opNet_no (S := S) hp]
    have ts := U.ts
    have p1 : XFr (W46 s) xNoA h1 (xputf h1 s 4 1) := (XFr.refl h1).putf (Or.inr ⟨rfl, Or.inl rfl⟩)
    have R2 : Rx (xputf h1 s 4 1) B s (sSet (sSet S 0 (-1)) 1 (-1)) := U.1.tr U.2.1 p1 (by rw [xfl_putf, if_pos ⟨rfl, rfl⟩]) (fun e => absurd e (by decide))
    refine Wp.vc 400 [] rfl ?_
    first | refine ⟨fun _ => ?_, fun c => absurd (by decide) c⟩ | refine ⟨fun c => absurd c (by decide), fun _ => ?_⟩
    exact ⟨isW ts rfl, trivial, XAns.mk R2 (U.2.2.1.trans p1 (fun z f _ w => w46_xw z f w) (fun _ _ w => w.elim)) U.2.2.2.1 U.2.2.2.2⟩
theorem m_opNet {d : Nat} {h : XH} {B m n i lo : Int} {S : XSt} (R : Rm h B m S) (O : SOK n S) : WpM (d + 3) 218 [.inr (.inr m), .inl i, .inl lo] h (MAn B m h (.inr (.inl (opNet S i lo).1)) (opNet S i lo).2) := by
  refine WpM.of rfl (MU.start R O rfl (fun g U => ?_))
  refine Wp.vc 400 [] rfl ?_
  have tm := U.tm
  refine U.hou rfl (Nat.zero_le _) (fun T e i0 => ?_) (fun hp => ?_)
  · rw [opNet_yes e i0]
    have TO := (U.ok e).1
    have hn := TO.2.2.1
    have rg := owpa_rg (V := sV S) (i := i) TO
    have ri := TO.2.2.2.2.1 i i0.1 i0.2
    obtain ⟨ne, TX, hv, -⟩ := U.hasT e
    obtain ⟨t2, f2⟩ := U.v2
    have c0 := TX.1.2.2
    have a0 := TX.2.1.1.1.2.2
    have a2 := TX.2.1.1.2.2.1.2.2
    obtain ⟨v0, -, v2, -⟩ := TX.2.2.2.1 i i0.1 i0.2
    have vi := hv i i0.1 (by omega)
    obtain ⟨hs, ehs⟩ : ∃ x, x = (if sV S i = -2 then 0 else thv T 2 i) := ⟨_, rfl⟩
    have hsr : 0 ≤ hs ∧ hs ≤ 999 := by rw [ehs]; split <;> omega
    have m1 := mul_rg hsr (show 0 ≤ paB T (sV S) i ∧ paB T (sV S) i ≤ 10 by omega)
    have m2 := mul_rg rg.1 (show 0 ≤ thv T 0 i + 1 ∧ thv T 0 i + 1 ≤ 10 by omega)
    have m3 := mul_rg (show 0 ≤ thv T 0 i + 1 ∧ thv T 0 i + 1 ≤ 10 by omega) (show 0 ≤ paB T (sV S) i ∧ paB T (sV S) i ≤ 10 by omega)
    have m4 : 0 < (thv T 0 i + 1) * paB T (sV S) i := Int.mul_pos (by omega) (by omega)
    rw [← ehs]
    have ow := m_owedBy (d := d + 1) U e (i := i)
    have pa := m_partsBy (d := d + 1) U e (i := i)
    clear TX TO hv
    have at63 : Wp (d + 3) 218 63 [some (.inr (.inr m)), some (.inl i), some (.inl lo), some (.inr (.inl (thv T 0 i + 1))), none, none, none] [.inr (.inl hs)] g (MAn B m h (.inr (.inl (sOk S (low (hs * paB T (sV S) i - owB T (sV S) i * (thv T 0 i + 1)) ((thv T 0 i + 1) * paB T (sV S) i) lo)).1)) (sOk S (low (hs * paB T (sV S) i - owB T (sV S) i * (thv T 0 i + 1)) ((thv T 0 i + 1) * paB T (sV S) i) lo)).2) := by
      refine Wp.vc 400 [] rfl ?_
      refine Wp.callE (j := 0) rfl (Nat.le_of_ble_eq_true rfl) ⟨true, tm⟩ pa ?_
      refine Wp.vc 400 [] rfl ?_
      refine ⟨by omega, ?_⟩
      refine Wp.callE (j := 0) rfl (Nat.le_of_ble_eq_true rfl) ⟨true, tm⟩ ow ?_
      refine Wp.vc 400 [] rfl ?_
      refine ⟨by omega, by omega, ?_⟩
      refine Wp.callE (j := 0) rfl (Nat.le_of_ble_eq_true rfl) ⟨true, tm⟩ pa ?_
      refine Wp.vc 400 [] rfl ?_
      refine ⟨by omega, ?_⟩
      refine U.fracK ⟨m4, by omega⟩ ⟨by omega, by omega⟩ rfl (Nat.zero_le _) (fun h1 U1 => ?_)
      refine Wp.vc 400 [] rfl ?_
      exact ⟨trivial, U1.ret⟩
    refine Wp.vc 400 [63] rfl ?_
    rw [f2, Int.zero_add, vi, v0, v2]
    refine ⟨fun _ => ⟨isF tm rfl, isF c0 rfl, isA a0 i0.1 (by omega), ⟨by omega, by omega⟩, isF tm rfl, ⟨by omega, by omega⟩, isA t2 i0.1 (by omega), fun c => ⟨isF tm rfl, isF c0 rfl, isA a2 i0.1 (by omega), ?_⟩, fun c => ?_⟩, fun w => absurd (show ¬ (1 : Int) = 0 by decide) w⟩
    · rw [if_neg c] at ehs
      subst ehs
      exact at63
    · rw [if_pos (Decidable.of_not_not c)] at ehs
      subst ehs
      exact at63
  · rw [opNet_no hp]
    refine Wp.vc 400 [] rfl ?_
    first | refine ⟨fun _ => ?_, fun c => absurd (by decide) c⟩ | refine ⟨fun c => absurd c (by decide), fun _ => ?_⟩
    refine U.refK rfl (Nat.zero_le _) (fun h1 U1 => ?_)
    refine Wp.vc 400 [] rfl ?_
    exact ⟨trivial, U1.ret⟩
/-- who owes most -/
def debt1 (T : XTw) (V : Int → Int) (b h : Int) : Int := if owB T V h = 0 then b else if b = -2 ∨ owB T V h * paB T V b > owB T V b * paB T V h then h else b
def debtl (T : XTw) (V : Int → Int) (n : Int) : Int := (nds n).foldl (debt1 T V) (-2)
theorem debtl_succ {T : XTw} {V : Int → Int} {k : Int} (h : 0 ≤ k) : debtl T V (k + 1) = debt1 T V (debtl T V k) k := by
  unfold debtl
  rw [nds_succ h, List.foldl_append]
  rfl
theorem debtl_ok {T : XTw} {V : Int → Int} : ∀ k : Nat, debtl T V (k : Int) = -2 ∨ (0 ≤ debtl T V k ∧ debtl T V k < k ∧ owB T V (debtl T V k) ≠ 0) := by
  intro k
  induction k with
  | zero => exact Or.inl rfl
  | succ k ih =>
    rw [show ((k + 1 : Nat) : Int) = (k : Int) + 1 by omega, debtl_succ (by omega)]
    unfold debt1
    split
    · rcases ih with w | w
      · exact Or.inl w
      · exact Or.inr ⟨w.1, by omega, w.2.2⟩
    · next c =>
      split
      · exact Or.inr ⟨by omega, by omega, c⟩
      · rcases ih with w | w
        · exact Or.inl w
        · exact Or.inr ⟨w.1, by omega, w.2.2⟩
def opDebtor (S : XSt) : Int × XSt := onT S fun T => sOk S (debtl T (sV S) (tnh T))
theorem m_opDebtor {d : Nat} {h : XH} {B m n : Int} {S : XSt} (R : Rm h B m S) (O : SOK n S) : WpM (d + 2) 219 [.inr (.inr m)] h (MAn B m h (.inl (opDebtor S).1) (opDebtor S).2) := by
  refine WpM.of rfl (MU.start R O rfl (fun g U => ?_))
  have tm := U.tm
  cases e : sT S with
  | none =>
    rw [show opDebtor S = _ from onT_no e]
    refine Wp.vc 400 [] rfl ?_
    rw [U.noT e]
    (repeat (refine And.intro (by first | exact trivial | exact isF (by assumption) rfl | exact isW (by assumption) rfl | exact isA (by assumption) (by omega) (by omega) | exact isB (by assumption) (by omega) (by omega) | exact isR (by assumption) (by decide) (by omega) (by omega) | (refine ⟨by omega, by omega⟩)) ?_))
    refine ⟨fun w => absurd rfl w, fun _ => ?_⟩
    exact U.ref (k := 1) rfl (fun _ => rfl) rfl
  | some T =>
    rw [show opDebtor S = _ from onT_yes e]
    obtain ⟨ne, TX, hv, -⟩ := U.hasT e
    have TO := (U.ok e).1
    have hn := TO.2.2.1
    have c := TX.1.2.2
    have e135 : xfl g (xfl g m 69) 135 = tnh T := TX.2.2.1.2.2.1
    have ow := fun i => m_owedBy (d := d) U e (i := i)
    have pa := fun i => m_partsBy (d := d) U e (i := i)
    have rgs := fun i => owpa_rg (V := sV S) (i := i) TO
    clear TX hv TO
    refine Wp.vc 400 [23] rfl ?_
    refine ⟨isF tm rfl, fun _ => ?_, fun w => absurd ne w⟩
    have key : ∀ (k : Int) (g' : XH), k ≤ tnh T → (0 ≤ k ∧ g' = g) → Wp (d + 2) 219 23 [some (.inr (.inr m)), some (.inl (debtl T (sV S) k)), some (.inl k)] [] g' (MAn B m h (.inl (sOk S (debtl T (sV S) (tnh T))).1) (sOk S (debtl T (sV S) (tnh T))).2) := by
      refine loopUp (G := fun k g' => Wp (d + 2) 219 23 [some (.inr (.inr m)), some (.inl (debtl T (sV S) k)), some (.inl k)] [] g' (MAn B m h (.inl (sOk S (debtl T (sV S) (tnh T))).1) (sOk S (debtl T (sV S) (tnh T))).2)) (tnh T) ?_ ?_
      · rintro k g' ⟨k0, rfl⟩ hk ih
        have ih := ih g' ⟨by omega, rfl⟩
        have r1 := rgs k
        have r2 := rgs (debtl T (sV S) k)
        have m1 := mul_rg r1.1 (show 0 ≤ paB T (sV S) (debtl T (sV S) k) ∧ paB T (sV S) (debtl T (sV S) k) ≤ 10 by omega)
        have m2 := mul_rg r2.1 (show 0 ≤ paB T (sV S) k ∧ paB T (sV S) k ≤ 10 by omega)
        rw [debtl_succ k0] at ih
        have nx : ∀ v, debt1 T (sV S) (debtl T (sV S) k) k = v → Wp (d + 2) 219 78 [some (.inr (.inr m)), some (.inl v), some (.inl k)] [] g' (MAn B m h (.inl (sOk S (debtl T (sV S) (tnh T))).1) (sOk S (debtl T (sV S) (tnh T))).2) := by
          intro v hv
          rw [hv] at ih
          refine Wp.vc 400 [23] rfl ?_
          exact ⟨⟨by omega, by omega⟩, ih⟩
        clear ih rgs
        unfold debt1 at nx
        refine Wp.vc 400 [23, 78] rfl ?_
        rw [e135]
        refine ⟨isF tm rfl, isF c rfl, fun w => absurd w (by omega), fun _ => ?_⟩
        refine Wp.callE (j := 0) rfl (Nat.le_of_ble_eq_true rfl) ⟨true, tm⟩ (ow k) ?_
        refine Wp.vc 400 [23, 78] rfl ?_
        refine ⟨fun c1 => ⟨fun c2 => ?_, fun c2 => ?_⟩, fun c1 => ?_⟩
        · exact nx _ (by rw [if_neg c1, if_pos (Or.inl c2)])
        · refine Wp.callE (j := 0) rfl (Nat.le_of_ble_eq_true rfl) ⟨true, tm⟩ (ow k) ?_
          refine Wp.vc 400 [23, 78] rfl ?_
          refine Wp.callE (j := 0) rfl (Nat.le_of_ble_eq_true rfl) ⟨true, tm⟩ (pa _) ?_
          refine Wp.vc 400 [23, 78] rfl ?_
          refine ⟨by omega, ?_⟩
          refine Wp.callE (j := 0) rfl (Nat.le_of_ble_eq_true rfl) ⟨true, tm⟩ (ow _) ?_
          refine Wp.vc 400 [23, 78] rfl ?_
          refine Wp.callE (j := 0) rfl (Nat.le_of_ble_eq_true rfl) ⟨true, tm⟩ (pa k) ?_
          refine Wp.vc 400 [23, 78] rfl ?_
          refine ⟨by omega, fun c3 => ?_, fun c3 => ?_⟩
          · exact nx _ (by rw [if_neg c1, if_neg (fun w => by rcases w with w | w; exact c2 w; exact absurd c3 (by omega))])
          · exact nx _ (by rw [if_neg c1, if_pos (Or.inr (by omega))])
        · exact nx _ (by rw [if_pos (Decidable.of_not_not c1)])
      · rintro g' ⟨k0, rfl⟩
        refine Wp.vc 400 [23] rfl ?_
        rw [e135]
        refine ⟨isF tm rfl, isF c rfl, fun _ => ?_, fun w => absurd (Int.le_refl _) w⟩
        exact U.good rfl (fun _ => rfl) rfl
    exact key 0 g (by omega) ⟨Int.le_refl _, rfl⟩
theorem x_opDebtor {d : Nat} {h : XH} {B s n : Int} {S : XSt} (R : Rx h B s S) (O : SOK n S) : WpM (d + 2) 42 [.inr (.inr s)] h (XAn B s h (.inl (opDebtor S).1) (opDebtor S).2) := by
  refine WpM.of rfl (Wp.vc 400 [] rfl ?_)
  refine XU.anew R O rfl (Nat.zero_le _) (fun h1 U => ?_)
  have ts := U.ts
  cases e : sT S with
  | none =>
    rw [show opDebtor S = _ from onT_no e]
    refine Wp.vc 400 [] rfl ?_
    rw [U.noT e]
    (repeat (refine And.intro (by first | exact trivial | exact isF (by assumption) rfl | exact isW (by assumption) rfl | exact isA (by assumption) (by omega) (by omega) | exact isB (by assumption) (by omega) (by omega) | exact isR (by assumption) (by decide) (by omega) (by omega) | (refine ⟨by omega, by omega⟩)) ?_))
    refine ⟨fun w => absurd rfl w, fun _ => ?_⟩
    exact U.no (k := 1) (by decide) rfl (fun _ => rfl) rfl
  | some T =>
    rw [show opDebtor S = _ from onT_yes e]
    obtain ⟨RT, hv, ne, TX, -⟩ := U.rooms e
    have TO := (U.ok e).1
    have hn := TO.2.2.1
    have c := TX.1.2.2
    have ch := TX.2.1.1.2.2
    have e111 : xfl h1 (xfl h1 s 3) 111 = tnh T := TX.2.2.1.2.2.1
    have rgs := fun i => owpa_rg (V := sV S) (i := i) TO
    have HX := TX.2.2.2.1
    have f9 := U.f9
    have sh := fun i i0 => x_shares (d := d + 1) (i := i) U e i0
    clear TX hv TO
    refine Wp.vc 400 [27] rfl ?_
    refine ⟨isF ts rfl, fun _ => ?_, fun w => absurd ne w⟩
    have key : ∀ (k : Int) (g' : XH), k ≤ tnh T → (0 ≤ k ∧ g' = h1) → ∀ (up dn : Int) (l5 : Option XV), (debtl T (sV S) k = -2 → up = 0 ∧ dn = 1) → (debtl T (sV S) k ≠ -2 → up = owB T (sV S) (debtl T (sV S) k) ∧ dn = paB T (sV S) (debtl T (sV S) k)) → Wp (d + 2) 42 27 [some (.inr (.inr s)), some (.inl (debtl T (sV S) k)), some (.inl up), some (.inl dn), some (.inl k), l5] [] g' (XAn B s h (.inl (debtl T (sV S) (tnh T))) (sSet S 0 (-1))) := by
      refine loopUp (G := fun k g' => ∀ (up dn : Int) (l5 : Option XV), (debtl T (sV S) k = -2 → up = 0 ∧ dn = 1) → (debtl T (sV S) k ≠ -2 → up = owB T (sV S) (debtl T (sV S) k) ∧ dn = paB T (sV S) (debtl T (sV S) k)) → Wp (d + 2) 42 27 [some (.inr (.inr s)), some (.inl (debtl T (sV S) k)), some (.inl up), some (.inl dn), some (.inl k), l5] [] g' (XAn B s h (.inl (debtl T (sV S) (tnh T))) (sSet S 0 (-1)))) (tnh T) ?_ ?_
      · rintro k g' ⟨k0, rfl⟩ hk ih up dn l5 u1 u2
        have ih := ih g' ⟨by omega, rfl⟩
        have ok := debtl_ok (T := T) (V := sV S) k.toNat
        rw [show ((k.toNat : Nat) : Int) = k by omega] at ok
        have r2 := rgs (debtl T (sV S) k)
        have ur : (0 ≤ up ∧ up ≤ 999) ∧ (0 ≤ dn ∧ dn ≤ 10) := by
          by_cases q : debtl T (sV S) k = -2
          · have := u1 q; omega
          · have := u2 q; omega
        have r := xlender_rg (sV S) k (show 0 ≤ tnh T by omega)
        rw [debtl_succ k0] at ih
        have skip : ∀ l5, debt1 T (sV S) (debtl T (sV S) k) k = debtl T (sV S) k → Wp (d + 2) 42 110 [some (.inr (.inr s)), some (.inl (debtl T (sV S) k)), some (.inl up), some (.inl dn), some (.inl k), l5] [] g' (XAn B s h (.inl (debtl T (sV S) (tnh T))) (sSet S 0 (-1))) := by
          intro l5 hv
          rw [hv] at ih
          refine Wp.vc 400 [27] rfl ?_
          exact ⟨⟨by omega, by omega⟩, ih up dn l5 u1 u2⟩
        have take : ∀ l5, debt1 T (sV S) (debtl T (sV S) k) k = k → Wp (d + 2) 42 110 [some (.inr (.inr s)), some (.inl k), some (.inl (owB T (sV S) k)), some (.inl (paB T (sV S) k)), some (.inl k), l5] [] g' (XAn B s h (.inl (debtl T (sV S) (tnh T))) (sSet S 0 (-1))) := by
          intro l5 hv
          rw [hv] at ih
          refine Wp.vc 400 [27] rfl ?_
          exact ⟨⟨by omega, by omega⟩, ih _ _ l5 (fun w => by omega) (fun _ => ⟨rfl, rfl⟩)⟩
        clear ih rgs
        unfold debt1 at skip take
        refine Wp.vc 400 [27, 110] rfl ?_
        rw [e111, f9]
        refine ⟨isF ts rfl, isF c rfl, fun w => absurd w (by omega), fun _ => ⟨isF ts rfl, ?_⟩⟩
        refine XU.lenderK (d := d + 1) U e rfl (Nat.le_of_ble_eq_true rfl) ?_
        show Wp _ _ _ _ (.inl (xlender (sV S) (tnh T) k) :: _) _ _
        refine Wp.vc 400 [27, 110] rfl ?_
        refine ⟨fun c1 => skip _ ?_, fun c1 => ?_⟩
        · rw [if_pos (show owB T (sV S) k = 0 from if_pos c1)]
        · have c1 : ¬ xlender (sV S) (tnh T) k = -2 := c1
          have r := r.resolve_left c1
          have HX := HX _ r.1 r.2
          have ca := HX.1.2.2
          have e3 := HX.2.1.2.2.2.1
          have eo : owB T (sV S) k = thv T 2 (xlender (sV S) (tnh T) k) := if_neg c1
          have ep : paB T (sV S) k = thv T 0 (xlender (sV S) (tnh T) k) + 1 := if_neg c1
          rw [e3]
          rw [eo, ep] at take
          rw [eo, ep] at skip
          have rr := (U.ok e).1.2.2.2.2.1 _ r.1 r.2
          have m1 := mul_rg (show 0 ≤ thv T 2 (xlender (sV S) (tnh T) k) ∧ thv T 2 (xlender (sV S) (tnh T) k) ≤ 999 by omega) ur.2
          have m2 := mul_rg ur.1 (show 0 ≤ thv T 0 (xlender (sV S) (tnh T) k) + 1 ∧ thv T 0 (xlender (sV S) (tnh T) k) + 1 ≤ 10 by omega)
          refine ⟨isF ts rfl, isF c rfl, isR ch (by decide) r.1 (by omega), isF ca rfl, ⟨by omega, by omega⟩, ?_⟩
          refine Wp.callE (j := 0) rfl (Nat.le_of_ble_eq_true rfl) ⟨true, ts⟩ (sh _ r) ?_
          refine Wp.vc 400 [27, 110] rfl ?_
          rw [e3]
          refine ⟨by omega, fun c2 => ⟨isF ts rfl, isF c rfl, isR ch (by decide) r.1 (by omega), isF ca rfl, ?_⟩, fun c2 => skip _ ?_⟩
          · refine Wp.callE (j := 0) rfl (Nat.le_of_ble_eq_true rfl) ⟨true, ts⟩ (sh _ r) ?_
            refine Wp.vc 400 [27, 110] rfl ?_
            refine take _ ?_
            by_cases q : debtl T (sV S) k = -2
            · have := u1 q
              rw [this.1, this.2] at c2
              rw [if_neg (by omega), if_pos (Or.inl q)]
            · have := u2 q
              rw [this.1, this.2] at c2
              have o0 : thv T 2 (xlender (sV S) (tnh T) k) ≠ 0 := fun w => by
                rw [w, Int.zero_mul] at c2
                have m3 := mul_rg r2.1 (show 0 ≤ thv T 0 (xlender (sV S) (tnh T) k) + 1 ∧ thv T 0 (xlender (sV S) (tnh T) k) + 1 ≤ 10 by omega)
                omega
              rw [if_neg o0, if_pos (Or.inr c2)]
          · by_cases q : debtl T (sV S) k = -2
            · have := u1 q
              rw [this.1, this.2] at c2
              rw [if_pos (by omega)]
            · have := u2 q
              rw [this.1, this.2] at c2
              by_cases o0 : thv T 2 (xlender (sV S) (tnh T) k) = 0
              · rw [if_pos o0]
              · rw [if_neg o0, if_neg (fun w => by rcases w with w | w; exact q w; exact c2 w)]
      · rintro g' ⟨k0, rfl⟩ up dn l5 u1 u2
        refine Wp.vc 400 [27] rfl ?_
        rw [e111]
        exact ⟨isF ts rfl, isF c rfl, fun _ => ⟨trivial, U.ret⟩, fun w => absurd (Int.le_refl _) w⟩
    exact key 0 h1 (by omega) ⟨Int.le_refl _, rfl⟩ 0 1 none (fun _ => ⟨rfl, rfl⟩) (fun w => absurd rfl w)
