/-! WALKS, 29: the ops of ways, the model -/
set_option maxRecDepth 100000
set_option maxHeartbeats 4000000
theorem m_ways {d : Nat} {B m n i j mm : Int} {b : Bool} {T : XTw} {V : Int → Int} {h : XH} (C : MCtx h B m n T V) (i0 : 0 ≤ i ∧ i < tnh T) (m0 : 0 ≤ mm ∧ mm ≤ 1440) : WpM (d + 4) 195 [.inr (.inr m), .inl i, .inl j, .inl mm, .inl (xbi b)] h (XRet fun v h' => v = none ∧ FrS m h h' ∧ WaccM h' m (wbest T V b i j mm)) := by
  have tm := C.2.1.1
  obtain ⟨t6, f6⟩ := C.2.1.2.2.2.2.2.2.1
  obtain ⟨t8, f8⟩ := C.2.1.2.2.2.2.2.2.2.2.1
  have hn := C.2.2.2.1.2.2.1
  have bm := C.1
  have hx := x2k (k := i) ⟨i0.1, by omega⟩
  refine WpM.of rfl (Wp.vc 400 [26] rfl ?_)
  rw [show xfl (xputf (xputf h m 89 0) m 90 99999) m 87 = m + 6 from (by (first | assumption | ((try simp only [xcs_putf, xty_putf, xar_putf, xsz_putf, xsl_putf, xfl_putf, xcs_puta, xty_puta, xfl_puta, xsz_puta, xsl_puta, xar_puta, xcs_copy, xty_copy, xfl_copy, xsz_copy, xsl_copy, xar_copy, xcs_newo, xar_newo, xsz_newo, xsl_newo, xty_newo, xfl_newo, xcs_newa, xfl_newa, xsz_newa, xsl_newa, xty_newa, xar_newa, and_true, true_and, and_false, false_and, ite_true, ite_false, eq_self, and_self]) <;> (repeat (first | rw [if_pos (by omega)] | rw [if_neg (by omega)])) <;> (first | assumption | rfl | omega)))), show xfl (xputa (xputf (xputf h m 89 0) m 90 99999) (m + 6) 0 i) m 91 = m + 8 from (by (first | assumption | ((try simp only [xcs_putf, xty_putf, xar_putf, xsz_putf, xsl_putf, xfl_putf, xcs_puta, xty_puta, xfl_puta, xsz_puta, xsl_puta, xar_puta, xcs_copy, xty_copy, xfl_copy, xsz_copy, xsl_copy, xar_copy, xcs_newo, xar_newo, xsz_newo, xsl_newo, xty_newo, xfl_newo, xcs_newa, xfl_newa, xsz_newa, xsl_newa, xty_newa, xar_newa, and_true, true_and, and_false, false_and, ite_true, ite_false, eq_self, and_self]) <;> (repeat (first | rw [if_pos (by omega)] | rw [if_neg (by omega)])) <;> (first | assumption | rfl | omega))))]
  refine ⟨isW tm rfl, isW tm rfl, isF tm rfl, isB t6 (by decide) (by decide), isF tm rfl, isB t8 (by decide) (by decide), ?_⟩
  obtain ⟨g, hg⟩ : ∃ g, g = xputa (xputa (xputf (xputf h m 89 0) m 90 99999) (m + 6) 0 i) (m + 8) 0 mm := ⟨_, rfl⟩
  have S : WStM h g m [i] [mm] none := by
    rw [hg]
    refine ⟨FrS.puta 8 (FrS.puta 6 ⟨((XFr.refl h).putf (Or.inr ⟨rfl, by omega⟩)).putf (Or.inr ⟨rfl, by omega⟩), rfl, rfl⟩ (by decide)) (by decide), fun q hq => ?_, fun q hq => ?_, ?_⟩
    · have : q = 0 := by have hq : q < 1 := hq; omega
      subst this
      rw [xar_puta, if_neg (fun w => by omega), xar_puta, if_pos ⟨rfl, rfl⟩]
      rfl
    · have : q = 0 := by have hq : q < 1 := hq; omega
      subst this
      rw [xar_puta, if_pos ⟨rfl, rfl⟩]
      rfl
    · refine ⟨?_, ?_⟩ <;> simp only [xcs_putf, xty_putf, xar_putf, xsz_putf, xsl_putf, xfl_putf, xcs_puta, xty_puta, xfl_puta, xsz_puta, xsl_puta, xar_puta, xcs_copy, xty_copy, xfl_copy, xsz_copy, xsl_copy, xar_copy, xcs_newo, xar_newo, xsz_newo, xsl_newo, xty_newo, xfl_newo, xcs_newa, xfl_newa, xsz_newa, xsl_newa, xty_newa, xar_newa, and_true, true_and, and_false, false_and, ite_true, ite_false, eq_self, and_self] <;> rfl
  rw [← hg]
  clear hg t6 f6 t8 f8 tm
  have Cg := C.keep S.1
  have tm := Cg.2.1.1
  obtain ⟨t6, f6⟩ := Cg.2.1.2.2.2.2.2.2.1
  refine Wp.vc 400 [52] rfl ?_
  refine ⟨fun ne => ?_, fun eq => ?_⟩
  · have ne : i ≠ j := ne
    rw [f6]
    refine ⟨⟨i0.1, by omega, hx.1, hx.2⟩, isF tm rfl, isB t6 (by decide) (by decide), ?_⟩
    have nx := m_wlevel (b := b) (goal := j) (from_ := i) (minute := mm) (Q := XRet fun v h' => v = none ∧ FrS m h h' ∧ WaccM h' m (wbest T V b i j mm)) C 6 d (xputa g (m + 6) 1 (-1)) [] [] i mm (1 * 2 ^ i.toNat) none rfl rfl
    rw [show (([] : List Int).length : Int) = 0 from rfl, Int.zero_add, Int.mul_zero, Int.add_zero] at nx
    refine nx (by omega) (MskOK.one ⟨by omega, by omega⟩ i0.1 i0.2) i0 m0 (WStM.row S (by show (1 : Int) ≤ 1; decide)) ?_ (fun h' S' => ?_)
    · rw [xar_puta, if_pos ⟨rfl, rfl⟩]
    · skip
      refine Wp.vc 400 [57] rfl ?_
      refine ⟨fun _ => ⟨trivial, none, rfl, rfl, S'.1, ?_⟩, fun w => absurd (Int.le_refl _) w⟩
      unfold wbest
      rw [wys_st ne]
      have e0 : wysP [] (((nds (tnh T)).flatMap (wkid T V b j 6 (1 * 2 ^ i.toNat) i mm)).map fun w => (w.1, i :: w.2)) = ((nds (tnh T)).flatMap (wkid T V b j 6 (1 * 2 ^ i.toNat) i mm)).map fun w => (w.1, i :: w.2) := by
        unfold wysP
        simp
      rw [← e0, wysP_cons]
      exact S'.2.2.2
  · have eq : i = j := Decidable.of_not_not eq
    subst eq
    have en := m_ends (d := d + 3) Cg (p := [i]) (t := mm) ⟨Nat.le_refl 1, by show 1 ≤ 7; decide⟩ ⟨m0.1, by omega⟩ S.2.1 (S.2.2.1 0 (Nat.zero_lt_one)) S.2.2.2
    refine Wp.callR (j := 0) rfl (Nat.le_of_ble_eq_true rfl) ⟨true, tm⟩ en (fun x h3 q => ?_)
    obtain ⟨rfl, q1, q2, q3, q4⟩ := q
    refine Wp.vc 400 [] rfl ?_
    refine ⟨trivial, none, rfl, rfl, S.1.trans ⟨q1.mono (fun z f _ w => ⟨w.1, by omega⟩) (fun z _ w => ⟨by omega, by omega⟩), q2, q3⟩, ?_⟩
    unfold wbest
    rw [wys_at]
    exact q4
theorem MU.soonK {d M pc np : Nat} {ls : XL} {st rest : XS} {B m n i j mm : Int} {b : Bool} {h0 h : XH} {S : XSt} {T : XTw} {Q : XO → XH → Prop} (U : MU B m n h0 h S) (eT : sT S = some T) (i0 : 0 ≤ i ∧ i < tnh T) (m0 : 0 ≤ mm ∧ mm ≤ 1440) (e : xstK M pc 0 st = some (np, some 9, 194, [.inr (.inr m), .inl i, .inl j, .inl mm, .inl (xbi b)], rest)) (hw : xwords rest ≤ 8) (k : ∀ h1, MU B m n h0 h1 S → WaccM h1 m (wbest T (sV S) b i j mm) → Wp (d + 6) M np ls (.inl (wmin T (sV S) b i j mm) :: rest) h1 Q) : Wp (d + 6) M pc ls st h Q := by
  refine Wp.callR e hw ⟨true, U.tm⟩ (Q1 := fun v h' => v = some (.inl (wmin T (sV S) b i j mm)) ∧ MU B m n h0 h' S ∧ WaccM h' m (wbest T (sV S) b i j mm)) ?_ (fun v h1 q => by
    obtain ⟨rfl, q1, q2⟩ := q
    exact k h1 q1 q2)
  have tm := U.tm
  have wy := m_ways (d := d) (b := b) (j := j) (U.ctx eT) i0 m0
  have rg := fun a => wbest_rg (a := a) (b := b) (j := j) (U.ok eT).1 i0 m0.1 (V := sV S)
  refine WpM.of rfl (Wp.vc 400 [] rfl ?_)
  refine Wp.callR (j := 0) rfl (Nat.le_of_ble_eq_true rfl) ⟨true, tm⟩ wy (fun v h1 q => ?_)
  obtain ⟨rfl, q1, q2⟩ := q
  have U1 : MU B m n h0 h1 S := U.scr q1.1 q1.2.1 q1.2.2
  have tm1 := U1.tm
  unfold wmin
  cases ew : wbest T (sV S) b i j mm with
  | none =>
    rw [ew] at q2
    have q2' : _ ∧ xfl h1 m 89 = 0 := q2
    refine Wp.vc 400 [] rfl ?_
    rw [q2'.2]
    exact ⟨isF tm1 rfl, fun w => absurd rfl w, fun _ => ⟨trivial, _, rfl, rfl, U1, q2⟩⟩
  | some a =>
    rw [ew] at q2
    have q2' : (xfl h1 m 90 = a.1 ∧ _) ∧ (xfl h1 m 89 = (a.2.length : Int) ∧ _) ∧ _ := q2
    have hr := rg a ew
    have hl : 0 < a.2.length := List.length_pos_iff.mpr hr.2.2.1
    refine Wp.vc 400 [] rfl ?_
    rw [q2'.2.1.1, q2'.1.1]
    exact ⟨isF tm1 rfl, fun _ => ⟨isF tm1 rfl, ⟨by omega, by omega⟩, trivial, _, rfl, rfl, U1, q2⟩, fun w => absurd (Decidable.of_not_not w) (by omega)⟩
theorem m_ref1 {d : Nat} {h : XH} {m mm : Int} : WpM (d + 1) 193 [.inr (.inr m), .inl 1, .inl mm] h (XE (some (.inl (if 0 ≤ mm ∧ mm ≤ 1439 then 0 else 2))) h) := by
  have := m_refusesWay (d := d) (h := h) (m := m) (mm := mm) True
  rw [xb_pos trivial, if_pos trivial] at this
  exact this
theorem m_ref0 {d : Nat} {h : XH} {m mm : Int} : WpM (d + 1) 193 [.inr (.inr m), .inl 0, .inl mm] h (XE (some (.inl 1)) h) := by
  have := m_refusesWay (d := d) (h := h) (m := m) (mm := mm) False
  rw [xb_neg not_false, if_neg not_false] at this
  exact this
theorem m_opWay {d : Nat} {h : XH} {B m n i j mm : Int} {S : XSt} (R : Rm h B m S) (O : SOK n S) : WpM (d + 6) 192 [.inr (.inr m), .inl i, .inl j, .inl mm] h (MAn B m h (.inl (opWay S i j mm).1) (opWay S i j mm).2) := by
  refine WpM.of rfl (MU.start R O rfl (fun g U => ?_))
  refine Wp.vc 400 [] rfl ?_
  have bad : ∀ kk : Int, 0 < kk → opWay S i j mm = sNo S kk → Wp (d + 6) 192 31 [some (.inr (.inr m)), some (.inl i), some (.inl j), some (.inl mm), none] [.inl kk] g (MAn B m h (.inl (opWay S i j mm).1) (opWay S i j mm).2) := by
    intro kk k0 e
    rw [e]
    refine Wp.vc 400 [] rfl ?_
    refine ⟨fun w => absurd w (by omega), fun _ => ?_⟩
    exact U.ref rfl (fun _ => rfl) rfl
  have tm := U.tm
  refine U.hou rfl (Nat.le_of_ble_eq_true rfl) (fun T e i0 => ?_) (fun hp => ?_)
  · refine Wp.vc 400 [] rfl ?_
    refine ⟨fun w => absurd w (by decide), fun _ => ?_⟩
    refine U.hou rfl (Nat.le_of_ble_eq_true rfl) (fun T' e' j0 => ?_) (fun hp => ?_)
    · rw [e] at e'
      cases e'
      refine Wp.vc 400 [] rfl ?_
      refine ⟨fun w => absurd w (by decide), fun _ => ?_⟩
      refine Wp.callE (j := 0) rfl (Nat.le_of_ble_eq_true rfl) ⟨true, tm⟩ m_ref1 ?_
      by_cases m0 : 0 ≤ mm ∧ mm ≤ 1439
      · rw [if_pos m0]
        rw [show opWay S i j mm = _ from onW_0 e i0 j0 m0]
        refine Wp.vc 400 [] rfl ?_
        refine ⟨fun _ => ?_, fun w => absurd (Int.le_refl _) w⟩
        refine U.soonK (b := true) e i0 ⟨m0.1, by omega⟩ rfl (Nat.le_of_ble_eq_true rfl) (fun h2 U2 _ => ?_)
        exact U2.good rfl (fun _ => rfl) rfl
      · rw [if_neg m0]
        exact bad 2 (by decide) (onW_2 ⟨T, e, i0⟩ ⟨T, e, j0⟩ m0)
    · refine Wp.vc 400 [] rfl ?_
      refine ⟨fun _ => ?_, fun w => absurd rfl w⟩
      refine Wp.callE (j := 0) rfl (Nat.le_of_ble_eq_true rfl) ⟨true, tm⟩ m_ref0 ?_
      exact bad 1 (by decide) (onW_1 (fun w => hp w.2))
  · refine Wp.vc 400 [] rfl ?_
    refine ⟨fun _ => ?_, fun w => absurd rfl w⟩
    refine Wp.callE (j := 0) rfl (Nat.le_of_ble_eq_true rfl) ⟨true, tm⟩ m_ref0 ?_
    exact bad 1 (by decide) (onW_1 (fun w => hp w.1))
theorem m_opWayAt {d : Nat} {h : XH} {B m n i j mm k : Int} {S : XSt} (R : Rm h B m S) (O : SOK n S) : WpM (d + 6) 199 [.inr (.inr m), .inl i, .inl j, .inl mm, .inl k] h (MAn B m h (.inl (opWayAt S i j mm k).1) (opWayAt S i j mm k).2) := by
  refine WpM.of rfl (MU.start R O rfl (fun g U => ?_))
  refine Wp.vc 400 [] rfl ?_
  have bad : ∀ kk : Int, 0 < kk → opWayAt S i j mm k = sNo S kk → Wp (d + 6) 199 31 [some (.inr (.inr m)), some (.inl i), some (.inl j), some (.inl mm), some (.inl k), none] [.inl kk] g (MAn B m h (.inl (opWayAt S i j mm k).1) (opWayAt S i j mm k).2) := by
    intro kk k0 e
    rw [e]
    refine Wp.vc 400 [] rfl ?_
    refine ⟨fun w => absurd w (by omega), fun _ => ?_⟩
    exact U.ref rfl (fun _ => rfl) rfl
  have tm := U.tm
  refine U.hou rfl (Nat.le_of_ble_eq_true rfl) (fun T e i0 => ?_) (fun hp => ?_)
  · refine Wp.vc 400 [] rfl ?_
    refine ⟨fun w => absurd w (by decide), fun _ => ?_⟩
    refine U.hou rfl (Nat.le_of_ble_eq_true rfl) (fun T' e' j0 => ?_) (fun hp => ?_)
    · rw [e] at e'
      cases e'
      refine Wp.vc 400 [] rfl ?_
      refine ⟨fun w => absurd w (by decide), fun _ => ?_⟩
      refine Wp.callE (j := 0) rfl (Nat.le_of_ble_eq_true rfl) ⟨true, tm⟩ m_ref1 ?_
      by_cases m0 : 0 ≤ mm ∧ mm ≤ 1439
      · rw [if_pos m0]
        rw [show opWayAt S i j mm k = _ from onW_0 e i0 j0 m0]
        refine Wp.vc 400 [] rfl ?_
        refine ⟨fun _ => ?_, fun w => absurd (Int.le_refl _) w⟩
        refine U.soonK (b := true) e i0 ⟨m0.1, by omega⟩ rfl (Nat.le_of_ble_eq_true rfl) (fun h2 U2 A => ?_)
        have rg := fun a => wbest_rg (a := a) (b := true) (j := j) (U2.ok e).1 i0 m0.1 (V := sV S)
        have tm := U2.tm
        obtain ⟨t7, f7⟩ := U2.lay.2.2.2.2.2.2.2.1
        have bad2 : ∀ r : Int × XSt, r = sNo S 1 → ∀ ls, Wp (d + 6) 199 82 (some (.inr (.inr m)) :: ls) [] h2 (MAn B m h (.inl r.1) r.2) := by
          rintro r rfl ls
          refine Wp.vc 400 [] rfl ?_
          exact U2.ref (k := 1) rfl (fun _ => rfl) rfl
        cases ew : wbest T (sV S) true i j mm with
        | none =>
          rw [ew] at A
          have A : _ ∧ xfl h2 m 89 = 0 := A
          refine Wp.vc 400 [82] rfl ?_
          rw [A.2]
          refine ⟨fun _ => bad2 _ rfl _, fun c => ⟨isF tm rfl, fun _ => bad2 _ rfl _, fun w => absurd (Int.not_lt.mp c) w⟩⟩
        | some a =>
          rw [ew] at A
          obtain ⟨-, ⟨A2, A3⟩, A4⟩ := A
          refine Wp.vc 400 [82] rfl ?_
          rw [A2, f7]
          refine ⟨fun c => bad2 _ (if_neg (fun w => by omega)) _, fun c => ⟨isF tm rfl, fun c2 => bad2 _ (if_neg (fun w => by omega)) _, fun c2 => ?_⟩⟩
          have c : ¬ k < 0 := c
          have c2 : ¬ (a.2.length : Int) ≤ k := c2
          have ak := A4 k.toNat (by omega)
          rw [show ((k.toNat : Nat) : Int) = k by omega] at ak
          rw [ak]
          show _ ∧ _ ∧ Wp _ _ _ _ _ _ (MAn B m h (.inl (if 0 ≤ k ∧ k < (a.2.length : Int) then sOk S (a.2.getD k.toNat 0) else sNo S 1).1) (if 0 ≤ k ∧ k < (a.2.length : Int) then sOk S (a.2.getD k.toNat 0) else sNo S 1).2)
          rw [if_pos ⟨by omega, by omega⟩]
          refine ⟨isF tm rfl, isA t7 (by omega) (by omega), ?_⟩
          exact U2.good rfl (fun _ => rfl) rfl
      · rw [if_neg m0]
        exact bad 2 (by decide) (onW_2 ⟨T, e, i0⟩ ⟨T, e, j0⟩ m0)
    · refine Wp.vc 400 [] rfl ?_
      refine ⟨fun _ => ?_, fun w => absurd rfl w⟩
      refine Wp.callE (j := 0) rfl (Nat.le_of_ble_eq_true rfl) ⟨true, tm⟩ m_ref0 ?_
      exact bad 1 (by decide) (onW_1 (fun w => hp w.2))
  · refine Wp.vc 400 [] rfl ?_
    refine ⟨fun _ => ?_, fun w => absurd rfl w⟩
    refine Wp.callE (j := 0) rfl (Nat.le_of_ble_eq_true rfl) ⟨true, tm⟩ m_ref0 ?_
    exact bad 1 (by decide) (onW_1 (fun w => hp w.1))
theorem m_opSaves {d : Nat} {h : XH} {B m n i j mm : Int} {S : XSt} (R : Rm h B m S) (O : SOK n S) : WpM (d + 6) 200 [.inr (.inr m), .inl i, .inl j, .inl mm] h (MAn B m h (.inl (opSaves S i j mm).1) (opSaves S i j mm).2) := by
  refine WpM.of rfl (MU.start R O rfl (fun g U => ?_))
  refine Wp.vc 400 [] rfl ?_
  have bad : ∀ kk : Int, 0 < kk → opSaves S i j mm = sNo S kk → Wp (d + 6) 200 31 [some (.inr (.inr m)), some (.inl i), some (.inl j), some (.inl mm), none, none] [.inl kk] g (MAn B m h (.inl (opSaves S i j mm).1) (opSaves S i j mm).2) := by
    intro kk k0 e
    rw [e]
    refine Wp.vc 400 [] rfl ?_
    refine ⟨fun w => absurd w (by omega), fun _ => ?_⟩
    exact U.ref rfl (fun _ => rfl) rfl
  have tm := U.tm
  refine U.hou rfl (Nat.le_of_ble_eq_true rfl) (fun T e i0 => ?_) (fun hp => ?_)
  · refine Wp.vc 400 [] rfl ?_
    refine ⟨fun w => absurd w (by decide), fun _ => ?_⟩
    refine U.hou rfl (Nat.le_of_ble_eq_true rfl) (fun T' e' j0 => ?_) (fun hp => ?_)
    · rw [e] at e'
      cases e'
      refine Wp.vc 400 [] rfl ?_
      refine ⟨fun w => absurd w (by decide), fun _ => ?_⟩
      refine Wp.callE (j := 0) rfl (Nat.le_of_ble_eq_true rfl) ⟨true, tm⟩ m_ref1 ?_
      by_cases m0 : 0 ≤ mm ∧ mm ≤ 1439
      · rw [if_pos m0]
        rw [show opSaves S i j mm = _ from onW_0 e i0 j0 m0]
        refine Wp.vc 400 [] rfl ?_
        refine ⟨fun _ => ?_, fun w => absurd (Int.le_refl _) w⟩
        have r1 := wmin_rg (V := sV S) (b := true) (j := j) (U.ok e).1 i0 m0.1
        have r2 := wmin_rg (V := sV S) (b := false) (j := j) (U.ok e).1 i0 m0.1
        refine U.soonK (b := false) e i0 ⟨m0.1, by omega⟩ rfl (Nat.le_of_ble_eq_true rfl) (fun h2 U2 _ => ?_)
        by_cases c : wmin T (sV S) false i j mm = -2
        · rw [if_pos c]
          refine Wp.vc 400 [] rfl ?_
          refine ⟨fun w => absurd c w, fun _ => ?_⟩
          exact U2.good rfl (fun _ => rfl) rfl
        · rw [if_neg c]
          refine Wp.vc 400 [] rfl ?_
          refine ⟨fun _ => ?_, fun w => absurd c w⟩
          refine U2.soonK (b := true) e i0 ⟨m0.1, by omega⟩ rfl (Nat.le_of_ble_eq_true rfl) (fun h3 U3 _ => ?_)
          refine Wp.vc 400 [] rfl ?_
          refine ⟨⟨by omega, by omega⟩, ?_⟩
          exact U3.good rfl (fun _ => rfl) rfl
      · rw [if_neg m0]
        exact bad 2 (by decide) (onW_2 ⟨T, e, i0⟩ ⟨T, e, j0⟩ m0)
    · refine Wp.vc 400 [] rfl ?_
      refine ⟨fun _ => ?_, fun w => absurd rfl w⟩
      refine Wp.callE (j := 0) rfl (Nat.le_of_ble_eq_true rfl) ⟨true, tm⟩ m_ref0 ?_
      exact bad 1 (by decide) (onW_1 (fun w => hp w.2))
  · refine Wp.vc 400 [] rfl ?_
    refine ⟨fun _ => ?_, fun w => absurd rfl w⟩
    refine Wp.callE (j := 0) rfl (Nat.le_of_ble_eq_true rfl) ⟨true, tm⟩ m_ref0 ?_
    exact bad 1 (by decide) (onW_1 (fun w => hp w.1))
theorem m_opFarthest {d : Nat} {h : XH} {B m n i mm : Int} {S : XSt} (R : Rm h B m S) (O : SOK n S) : WpM (d + 6) 201 [.inr (.inr m), .inl i, .inl mm] h (MAn B m h (.inl (opFarthest S i mm).1) (opFarthest S i mm).2) := by
  refine WpM.of rfl (MU.start R O rfl (fun g U => ?_))
  refine Wp.vc 400 [] rfl ?_
  have bad : ∀ kk : Int, 0 < kk → opFarthest S i mm = sNo S kk → Wp (d + 6) 201 15 [some (.inr (.inr m)), some (.inl i), some (.inl mm), none, none, none, none, none] [.inl kk] g (MAn B m h (.inl (opFarthest S i mm).1) (opFarthest S i mm).2) := by
    intro kk k0 e
    rw [e]
    refine Wp.vc 400 [] rfl ?_
    refine ⟨fun w => absurd w (by omega), fun _ => ?_⟩
    exact U.ref rfl (fun _ => rfl) rfl
  have tm := U.tm
  refine U.hou rfl (Nat.le_of_ble_eq_true rfl) (fun T e i0 => ?_) (fun hp => ?_)
  · refine Wp.vc 400 [] rfl ?_
    refine Wp.callE (j := 0) rfl (Nat.le_of_ble_eq_true rfl) ⟨true, tm⟩ m_ref1 ?_
    by_cases m0 : 0 ≤ mm ∧ mm ≤ 1439
    · have TO := (U.ok e).1
      rw [if_pos m0, show opFarthest S i mm = _ from (onH_yes e i0).trans (if_pos m0), ← xfarl_eq (f := fun g => wmin T (sV S) true i g mm) (i := i) (n := tnh T) wmin_self (fun g g0 g1 ne => wmin_far TO i0 m0.1 (fun e => ne e.symm)) i0]
      have key : ∀ (k : Int) (h2 : XH), k ≤ tnh T → (0 ≤ k ∧ MU B m n h h2 S) → ∀ l7, Wp (d + 6) 201 35 [some (.inr (.inr m)), some (.inl i), some (.inl mm), some (.inl 0), some (.inl (xfarl (fun g => wmin T (sV S) true i g mm) k (i, 0)).1), some (.inl (xfarl (fun g => wmin T (sV S) true i g mm) k (i, 0)).2), some (.inl k), l7] [] h2 (MAn B m h (.inl (sOk S (xfarl (fun g => wmin T (sV S) true i g mm) (tnh T) (i, 0)).1).1) (sOk S (xfarl (fun g => wmin T (sV S) true i g mm) (tnh T) (i, 0)).1).2) := by
        refine loopUp (G := fun k h2 => ∀ l7, Wp (d + 6) 201 35 [some (.inr (.inr m)), some (.inl i), some (.inl mm), some (.inl 0), some (.inl (xfarl (fun g => wmin T (sV S) true i g mm) k (i, 0)).1), some (.inl (xfarl (fun g => wmin T (sV S) true i g mm) k (i, 0)).2), some (.inl k), l7] [] h2 (MAn B m h (.inl (sOk S (xfarl (fun g => wmin T (sV S) true i g mm) (tnh T) (i, 0)).1).1) (sOk S (xfarl (fun g => wmin T (sV S) true i g mm) (tnh T) (i, 0)).1).2)) (tnh T) ?_ ?_
        · rintro k h2 ⟨k0, U2⟩ hk ih l7
          obtain ⟨ne, TX, -⟩ := U2.hasT e
          have hn := TO.2.2.1
          have ct := TX.1.2.2
          have e135 : xfl h2 (xfl h2 m 69) 135 = tnh T := TX.2.2.1.2.2.1
          clear TX
          refine Wp.vc 400 [35] rfl ?_
          rw [e135]
          refine ⟨isF U2.tm rfl, isF ct rfl, fun w => absurd w (by omega), fun _ => ?_⟩
          refine U2.soonK e i0 (j := k) (b := true) ⟨m0.1, by omega⟩ rfl (Nat.le_of_ble_eq_true rfl) (fun h3 U3 _ => ?_)
          have ih := ih h3 ⟨by omega, U3⟩
          rw [xfarl_succ k0] at ih
          unfold xfar1 at ih
          dsimp only at ih
          show Wp _ _ _ _ (.inl (wmin T (sV S) true i k mm) :: _) _ _
          refine Wp.vc 400 [35] rfl ?_
          refine ⟨fun c => ?_, fun c => ?_⟩
          · rw [if_neg (by have : (xfarl (fun g => wmin T (sV S) true i g mm) k (i, 0)).2 < wmin T (sV S) true i k mm := c; omega)] at ih
            exact ⟨⟨by omega, by omega⟩, ih _⟩
          · rw [if_pos (by have : ¬ (xfarl (fun g => wmin T (sV S) true i g mm) k (i, 0)).2 < wmin T (sV S) true i k mm := c; omega)] at ih
            exact ⟨⟨by omega, by omega⟩, ih _⟩
        · rintro h2 ⟨k0, U2⟩ l7
          obtain ⟨ne, TX, -⟩ := U2.hasT e
          have ct := TX.1.2.2
          have e135 : xfl h2 (xfl h2 m 69) 135 = tnh T := TX.2.2.1.2.2.1
          clear TX
          refine Wp.vc 400 [35] rfl ?_
          rw [e135]
          refine ⟨isF U2.tm rfl, isF ct rfl, fun _ => ?_, fun w => absurd (Int.le_refl _) w⟩
          exact U2.good rfl (fun _ => rfl) rfl
      refine Wp.vc 400 [35] rfl ?_
      exact ⟨fun _ => key 0 g (by have := TO.2.2.1; omega) ⟨Int.le_refl _, U⟩ none, fun w => absurd (Int.le_refl _) w⟩
    · rw [if_neg m0]
      exact bad 2 (by decide) ((onH_yes e i0).trans (if_neg m0))
  · refine Wp.vc 400 [] rfl ?_
    refine Wp.callE (j := 0) rfl (Nat.le_of_ble_eq_true rfl) ⟨true, tm⟩ m_ref0 ?_
    exact bad 1 (by decide) (onH_no hp)
theorem m_opHomeIn {d : Nat} {h : XH} {B m n p : Int} {S : XSt} (R : Rm h B m S) (O : SOK n S) : WpM (d + 6) 202 [.inr (.inr m), .inl p] h (MAn B m h (.inl (opHomeIn S p).1) (opHomeIn S p).2) := by
  refine WpM.of rfl (MU.start R O rfl (fun g U => ?_))
  refine Wp.vc 400 [] rfl ?_
  refine U.per rfl (Nat.le_of_ble_eq_true rfl) (fun T e p0 => ?_) (fun hp => ?_)
  · rw [show opHomeIn S p = _ from onP_yes e p0]
    obtain ⟨ne, TX, -, hq⟩ := U.hasT e
    obtain ⟨TO, VO⟩ := U.ok e
    have hpm := TO.2.2.2.1
    have vq := VO.2.2.2.2 p p0.1 p0.2
    have n64 : n ≤ 64 := U.2.1.2.2.2.2.2.2
    have v8 := hq p p0.1 p0.2
    have v7 := (TX.2.2.2.2.1 p p0.1 p0.2).1
    have c0 := TX.1.2.2
    have c7 := TX.2.1.2.2.1.2.2
    obtain ⟨t2, f2⟩ := U.v2
    have tm := U.tm
    have em : (sV S (12 + p)).tmod 1440 = sV S (12 + p) % 1440 := Int.tmod_eq_emod_of_nonneg vq.2.1
    clear TX TO VO hq
    refine Wp.vc 400 [] rfl ?_
    rw [f2, v7, v8.1, v8.2, em]
    refine ⟨fun w => absurd w (by decide), fun _ => ⟨isF tm rfl, ⟨by omega, by omega⟩, isA t2 (by omega) (by omega), isF tm rfl, isF c0 rfl, isA c7 p0.1 (by omega), isF tm rfl, ⟨by omega, by omega⟩, isA t2 (by omega) (by omega), ⟨by decide, Or.inl vq.2.1⟩, ?_⟩⟩
    refine U.soonK (b := true) e vq.1 (by omega) rfl (Nat.le_of_ble_eq_true rfl) (fun h2 U2 _ => ?_)
    rw [wmin_day]
    exact U2.good rfl (fun _ => rfl) rfl
  · rw [show opHomeIn S p = _ from onP_no hp]
    refine Wp.vc 400 [] rfl ?_
    refine ⟨fun _ => ?_, fun w => absurd rfl w⟩
    exact U.ref (k := 1) rfl (fun _ => rfl) rfl
