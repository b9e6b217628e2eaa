/-! WALKS, 54: rows of exchanges: WrongRoomModel's answers -/
set_option maxRecDepth 100000
set_option maxHeartbeats 4000000
theorem exb_le {n : Int} {l : List (List Int × (Int → Int))} : ∀ acc : Int × List Int, acc.1 ≤ (l.foldl (exb n) acc).1 := by
  induction l with
  | nil => intro acc; exact Int.le_refl _
  | cons w l ih =>
    intro acc
    refine Int.le_trans ?_ (ih (exb n acc w))
    unfold exb
    split
    · show acc.1 ≤ xones (xmutual w.2 n)
      omega
    · exact Int.le_refl _
theorem exA_ne {n : Int} {V : Int → Int} : (exA n V 4).1 ≠ -1 := by
  have h1 : 0 ≤ (exA n V 1).1 := by
    show 0 ≤ (exb n (-1, []) ([], V)).1
    have r := xones_rg (xmutual V n)
    unfold exb
    rw [if_pos (show (-1 : Int) < xones (xmutual V n) by omega)]
    exact r.1
  have st : ∀ k : Int, 0 ≤ k → (exA n V k).1 ≤ (exA n V (k + 1)).1 := fun k k0 => by
    rw [exA_st k0]
    exact exb_le _
  have h2 := st 1 (by decide)
  have h3 := st 2 (by decide)
  have h4 := st 3 (by decide)
  have e2 : (1 : Int) + 1 = 2 := rfl
  have e3 : (2 : Int) + 1 = 3 := rfl
  have e4 : (3 : Int) + 1 = 4 := rfl
  rw [e2] at h2
  rw [e3] at h3
  rw [e4] at h4
  omega
theorem MU.exsK {d M pc np : Nat} {ls : XL} {st rest : XS} {B m n : Int} {h0 h : XH} {S : XSt} {T : XTw} {Q : XO → XH → Prop} (U : MU B m n h0 h S) (eT : sT S = some T) (e : xstK M pc 0 st = some (np, some 9, 221, [.inr (.inr m)], rest)) (hw : xwords rest ≤ 8) (k : ∀ h1, MU B m n h0 h1 S → AccM h1 m (exA (tnh T) (sV S) 4) → Wp (d + 4) M np ls rest h1 Q) : Wp (d + 4) M pc ls st h Q := by
  refine Wp.callR e hw ⟨true, U.tm⟩ (Q1 := fun v h' => v = none ∧ MU B m n h0 h' S ∧ AccM h' m (exA (tnh T) (sV S) 4)) ?_ (fun v h1 q => by
    obtain ⟨rfl, q1, q2⟩ := q
    exact k h1 q1 q2)
  have tm := U.tm
  clear k e
  have loop : ∀ (N : Int) (h2 : XH), N ≤ 4 → (0 ≤ N ∧ FrS m h h2 ∧ AccM h2 m (exA (tnh T) (sV S) N)) → Wp (d + 3) 221 7 [some (.inr (.inr m)), some (.inl N)] [] h2 (fun o h' => ∃ v, o = .inl v ∧ v = none ∧ MU B m n h0 h' S ∧ AccM h' m (exA (tnh T) (sV S) 4)) := by
    refine loopUp (G := fun N h2 => Wp (d + 3) 221 7 [some (.inr (.inr m)), some (.inl N)] [] h2 (fun o h' => ∃ v, o = .inl v ∧ v = none ∧ MU B m n h0 h' S ∧ AccM h' m (exA (tnh T) (sV S) 4))) 4 ?_ ?_
    · rintro N h2 ⟨N0, F2, A2⟩ hN ih
      have C2 := (U.ctx eT).keep F2
      have so := m_seeksOf (d := d) (M := N.toNat) C2 (by omega) A2
      rw [Int.toNat_of_nonneg N0, ← exA_st N0] at so
      refine Wp.vc 400 [7] rfl ?_
      refine ⟨fun c => absurd c (by omega), fun _ => ?_⟩
      refine Wp.callR (j := 0) rfl (Nat.le_of_ble_eq_true rfl) ⟨true, C2.2.1.1⟩ so (fun v h3 q => ?_)
      obtain ⟨rfl, F3, A3⟩ := q
      refine Wp.vc 400 [7] rfl ?_
      exact ⟨by omega, ih h3 ⟨by omega, F2.trans F3, A3⟩⟩
    · rintro h2 ⟨N0, F2, A2⟩
      refine Wp.vc 400 [] rfl ?_
      exact ⟨fun _ => ⟨trivial, none, rfl, rfl, U.scr F2.1 F2.2.1 F2.2.2, A2⟩, fun c => absurd (by decide) c⟩
  have l0 := loop 0 (xputf h m 101 (-1)) (by decide) ⟨Int.le_refl _, ⟨(XFr.refl h).putf (Or.inr ⟨rfl, by omega⟩), rfl, rfl⟩, (by (first | assumption | ((try simp only [xcs_putf, xty_putf, xar_putf, xsz_putf, xsl_putf, xfl_putf, xcs_puta, xty_puta, xfl_puta, xsz_puta, xsl_puta, xar_puta, xcs_copy, xty_copy, xfl_copy, xsz_copy, xsl_copy, xar_copy, xcs_newo, xar_newo, xsz_newo, xsl_newo, xty_newo, xfl_newo, xcs_newa, xfl_newa, xsz_newa, xsl_newa, xty_newa, xar_newa, and_true, true_and, and_false, false_and, ite_true, ite_false, eq_self, and_self]) <;> (repeat (first | rw [if_pos (by omega)] | rw [if_neg (by omega)])) <;> (first | assumption | rfl | omega)))), ⟨Int.le_refl _, show (-1 : Int) ≤ 7 by decide⟩, fun ne => absurd rfl ne⟩
  refine WpM.of rfl (Wp.vc 400 [7] rfl ?_)
  exact ⟨isW tm rfl, l0⟩
theorem m_opPaired {d : Nat} {h : XH} {B m n : Int} {S : XSt} (R : Rm h B m S) (O : SOK n S) : WpM (d + 4) 220 [.inr (.inr m)] h (MAn B m h (.inl (opPaired S).1) (opPaired S).2) := by
  refine WpM.of rfl (MU.start R O rfl (fun g U => ?_))
  have tm := U.tm
  cases e : sT S with
  | none =>
    rw [show opPaired S = _ from onT_no e]
    refine Wp.vc 400 [] rfl ?_
    rw [U.noT e]
    (repeat (refine And.intro (by first | exact trivial | exact isF (by assumption) rfl | exact isW (by assumption) rfl | exact isA (by assumption) (by omega) (by omega) | exact isB (by assumption) (by omega) (by omega) | exact isR (by assumption) (by decide) (by omega) (by omega) | (refine ⟨by omega, by omega⟩)) ?_))
    refine ⟨fun w => absurd rfl w, fun _ => ?_⟩
    exact U.ref (k := 1) rfl (fun _ => rfl) rfl
  | some T =>
    rw [show opPaired S = _ from onT_yes e]
    obtain ⟨ne, -⟩ := U.hasT e
    refine Wp.vc 400 [] rfl ?_
    refine ⟨isF tm rfl, fun _ => ?_, fun w => absurd ne w⟩
    refine U.exsK e rfl (Nat.zero_le _) (fun h1 U1 A1 => ?_)
    refine Wp.vc 400 [] rfl ?_
    rw [A1.1]
    refine ⟨isF U1.tm rfl, ?_⟩
    exact U1.good rfl (fun _ => rfl) rfl
theorem m_opFewest {d : Nat} {h : XH} {B m n : Int} {S : XSt} (R : Rm h B m S) (O : SOK n S) : WpM (d + 4) 228 [.inr (.inr m)] h (MAn B m h (.inl (opFewest S).1) (opFewest S).2) := by
  refine WpM.of rfl (MU.start R O rfl (fun g U => ?_))
  have tm := U.tm
  cases e : sT S with
  | none =>
    rw [show opFewest S = _ from onT_no e]
    refine Wp.vc 400 [] rfl ?_
    rw [U.noT e]
    (repeat (refine And.intro (by first | exact trivial | exact isF (by assumption) rfl | exact isW (by assumption) rfl | exact isA (by assumption) (by omega) (by omega) | exact isB (by assumption) (by omega) (by omega) | exact isR (by assumption) (by decide) (by omega) (by omega) | (refine ⟨by omega, by omega⟩)) ?_))
    refine ⟨fun w => absurd rfl w, fun _ => ?_⟩
    exact U.ref (k := 1) rfl (fun _ => rfl) rfl
  | some T =>
    rw [show opFewest S = _ from onT_yes e]
    obtain ⟨ne, -⟩ := U.hasT e
    refine Wp.vc 400 [] rfl ?_
    refine ⟨isF tm rfl, fun _ => ?_, fun w => absurd ne w⟩
    refine U.exsK e rfl (Nat.zero_le _) (fun h1 U1 A1 => ?_)
    refine Wp.vc 400 [] rfl ?_
    rw [(A1.2.2 exA_ne).1]
    refine ⟨isF U1.tm rfl, ?_⟩
    exact U1.good rfl (fun _ => rfl) rfl
theorem m_opExchangeAt {d : Nat} {h : XH} {B m n i : Int} {S : XSt} (R : Rm h B m S) (O : SOK n S) : WpM (d + 4) 229 [.inr (.inr m), .inl i] h (MAn B m h (.inl (opExchangeAt S i).1) (opExchangeAt S i).2) := by
  refine WpM.of rfl (MU.start R O rfl (fun g U => ?_))
  have tm := U.tm
  cases e : sT S with
  | none =>
    rw [show opExchangeAt S i = _ from onT_no e]
    refine Wp.vc 400 [] rfl ?_
    rw [U.noT e]
    (repeat (refine And.intro (by first | exact trivial | exact isF (by assumption) rfl | exact isW (by assumption) rfl | exact isA (by assumption) (by omega) (by omega) | exact isB (by assumption) (by omega) (by omega) | exact isR (by assumption) (by decide) (by omega) (by omega) | (refine ⟨by omega, by omega⟩)) ?_))
    refine ⟨fun w => absurd rfl w, fun _ => ?_⟩
    exact U.ref (k := 1) rfl (fun _ => rfl) rfl
  | some T =>
    rw [show opExchangeAt S i = _ from onT_yes e]
    obtain ⟨ne, -⟩ := U.hasT e
    refine Wp.vc 400 [] rfl ?_
    refine ⟨isF tm rfl, fun _ => ?_, fun w => absurd ne w⟩
    refine U.exsK e rfl (Nat.zero_le _) (fun h1 U1 A1 => ?_)
    obtain ⟨a1, a2, a3⟩ := A1.2.2 exA_ne
    have tm1 := U1.tm
    obtain ⟨t14, f100⟩ := U1.lay.2.2.2.2.2.2.2.2.2.2.2.2.2.2.1
    refine Wp.vc 400 [63] rfl ?_
    rw [a1, f100]
    have bad : ¬ (0 ≤ i ∧ i < ((exA (tnh T) (sV S) 4).2.length : Int)) → Wp (d + 4) 229 63 [some (.inr (.inr m)), some (.inl i)] [] h1 (MAn B m h (.inl (if 0 ≤ i ∧ i < ((exA (tnh T) (sV S) 4).2.length : Int) then sOk S (xc10 ((exA (tnh T) (sV S) 4).2.getD i.toNat 0)) else sNo S 1).1) (if 0 ≤ i ∧ i < ((exA (tnh T) (sV S) 4).2.length : Int) then sOk S (xc10 ((exA (tnh T) (sV S) 4).2.getD i.toNat 0)) else sNo S 1).2) := by
      intro c
      rw [if_neg c]
      refine Wp.vc 400 [] rfl ?_
      exact U1.ref (k := 1) rfl (fun _ => rfl) rfl
    refine ⟨fun c => bad (by omega), fun c1 => ⟨isF tm1 rfl, fun c => bad (by omega), fun c2 => ?_⟩⟩
    have c : 0 ≤ i ∧ i < ((exA (tnh T) (sV S) 4).2.length : Int) := ⟨by omega, by omega⟩
    clear bad
    rw [if_pos c]
    have a3 := a3 i.toNat (by omega)
    rw [Int.toNat_of_nonneg c.1] at a3
    obtain ⟨a4, a5, a6⟩ := a3
    rw [a4, Int.tdiv_eq_ediv_of_nonneg a5, Int.tmod_eq_emod_of_nonneg a5]
    refine ⟨isF tm1 rfl, isA t14 c.1 (by omega), ⟨by decide, Or.inl a5⟩, by omega, isF tm1 rfl, isA t14 c.1 (by omega), ⟨by decide, Or.inl a5⟩, by omega, ?_⟩
    exact U1.good rfl (fun _ => rfl) rfl
