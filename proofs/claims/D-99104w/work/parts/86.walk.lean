/-! WALKS, 27: the model's ways -/
set_option maxRecDepth 100000
set_option maxHeartbeats 4000000
/-- the model at m in the heap, its tries aside -/
def FrS (m : Int) (h g : XH) : Prop := XFr (WScr m) (AScr m) h g ∧ xsz g = xsz h ∧ xsl g = xsl h
theorem FrS.refl {m : Int} (h : XH) : FrS m h h := ⟨XFr.refl h, rfl, rfl⟩
theorem FrS.trans {m : Int} {h g k : XH} (p : FrS m h g) (q : FrS m g k) : FrS m h k := ⟨p.1.trans q.1 (fun _ _ _ e => e) (fun _ _ e => e), q.2.1.trans p.2.1, q.2.2.trans p.2.2⟩
theorem FrS.puta {m : Int} {h g : XH} (c : Int) {i z : Int} (p : FrS m h g) (h5 : 5 ≤ c ∧ c < 15) : FrS m h (xputa g (m + c) i z) := ⟨p.1.puta (Or.inr ⟨by omega, by omega⟩), p.2.1, p.2.2⟩
def MCtx (h : XH) (B m n : Int) (T : XTw) (V : Int → Int) : Prop := (1 ≤ m ∧ m + 16 ≤ B ∧ B ≤ xsz h) ∧ ModelL h m ∧ TownM h B (xfl h m 69) T ∧ TOK T ∧ VOK T n V ∧ ∀ i : Int, 0 ≤ i → i < 8 → xar h (m + 2) i = V i
theorem MCtx.keep {h g : XH} {B m n : Int} {T : XTw} {V : Int → Int} (p : FrS m h g) (C : MCtx h B m n T V) : MCtx g B m n T V := by
  obtain ⟨⟨b0, b1, b2⟩, L, TX, TO, VO, hv⟩ := C
  obtain ⟨p, z1, z2⟩ := p
  have f69 : xfl g m 69 = xfl h m 69 := p.2.2.2.1 m 69 (by omega) (fun w => by omega)
  refine ⟨⟨b0, b1, by omega⟩, L.keep p (by omega) (fun f hf w => by have := xfin_no f hf; omega), ?_, TO, VO, fun i i0 i1 => (p.2.2.2.2 _ i (by omega) (fun w => by omega)).trans (hv i i0 i1)⟩
  rw [f69]
  exact TX.keep (Above.of p (fun z f hz _ _ w => by have := w.1; omega) (fun z hz w => by omega))
theorem MU.ctx {B m n : Int} {h0 h : XH} {S : XSt} {T : XTw} (U : MU B m n h0 h S) (e : sT S = some T) : MCtx h B m n T (sV S) := ⟨U.bnd, U.lay, (U.hasT e).2.1, (U.ok e).1, (U.ok e).2, (U.hasT e).2.2.1⟩
abbrev xbi (b : Bool) : Int := if b = true then 1 else 0
theorem m_steps {d : Nat} {h : XH} {B m n i j t : Int} {b : Bool} {T : XTw} {V : Int → Int} (C : MCtx h B m n T V) (i0 : 0 ≤ i ∧ i < tnh T) (j0 : 0 ≤ j ∧ j < tnh T) (t0 : 0 ≤ t ∧ t ≤ 20000) : WpM (d + 2) 198 [.inr (.inr m), .inl i, .inl j, .inl t, .inl (xbi b)] h (XE (some (.inl ((wst T V b i j t).getD 99999))) h) := by
  obtain ⟨⟨b0, b1, b2⟩, L, TX, TO, VO, hv⟩ := C
  have hn := TO.2.2.1
  have tm := L.1
  obtain ⟨t2, f2⟩ := L.2.2.1
  have c0 := TX.1.2.2
  have c8 := TX.2.1.2.1.2.2
  have f133 : xfl h (xfl h m 69) 133 = tsc T 0 := TX.2.2.1.1
  have v := TX.2.2.2.2.2.2.2 i j i0.1 (by omega) j0.1 (by omega)
  have rg := TO.2.2.2.2.2.2.1 i j i0.1 (by omega) j0.1 (by omega)
  have dr := TO.1
  have o := (TO.2.2.2.2.1 i i0.1 i0.2).2.2.2.2.1
  have xr := xopens_rg (T := T) (i := i) t0.1
  have h7 := VO.2.2.2.1
  have vi := hv i i0.1 (by omega)
  have v7 := hv 7 (by decide) (by decide)
  have ih := fun mm (m0 : 0 ≤ mm ∧ mm < 1440) => m_isHour (d := d) TX TO i0 m0
  have gi : xIsA h (xfl h (xfl h m 69) 150) 0 (7 * i + j) := isA c8 (by omega) (by omega)
  clear TX TO VO L hv
  have at40 : ∀ (q : Int) (so : Option Int), (so = if 0 < tst T i j then some (t + tst T i j) else none) → q = so.getD 99999 → Wp (d + 2) 198 40 [some (.inr (.inr m)), some (.inl i), some (.inl j), some (.inl t), some (.inl (xbi b)), some (.inl q), none] [] h (XE (some (.inl ((wst T V b i j t).getD 99999))) h) := by
    intro q so hso hq
    have at71 : ¬ (b = true ∧ V i = j ∧ ¬ xbit (V 7) i) → Wp (d + 2) 198 71 [some (.inr (.inr m)), some (.inl i), some (.inl j), some (.inl t), some (.inl (xbi b)), some (.inl q), none] [] h (XE (some (.inl ((wst T V b i j t).getD 99999))) h) := by
      intro hn
      have : wst T V b i j t = so := by unfold wst; rw [if_neg hn, hso]
      rw [this, ← hq]
      refine Wp.vc 400 [] rfl ?_
      exact ⟨trivial, rfl, rfl⟩
    cases b with
    | false =>
      refine Wp.vc 400 [71] rfl ?_
      exact ⟨fun _ => at71 (fun w => by cases w.1), fun w => absurd rfl w⟩
    | true =>
      refine Wp.vc 400 [71, 77] rfl ?_
      rw [f2, Int.zero_add, vi, v7]
      refine ⟨fun w => absurd w (by decide), fun _ => ⟨isF tm rfl, ⟨by omega, by omega⟩, isA t2 i0.1 (by omega), fun c => at71 (fun w => c w.2.1), fun c => ⟨isF tm rfl, isA t2 (by decide) (by decide), ?_⟩⟩⟩
      refine Wp.callE (j := 0) rfl (Nat.le_of_ble_eq_true rfl) trivial (m_bit (V 7) i ⟨by omega, by omega⟩ ⟨i0.1, by omega⟩) ?_
      by_cases c2 : xbit (V 7) i
      · rw [if_pos c2]
        refine Wp.vc 400 [71, 77] rfl ?_
        exact ⟨fun w => absurd w (by decide), fun _ => at71 (fun w => w.2.2 c2)⟩
      · rw [if_neg c2]
        have c : V i = j := Decidable.of_not_not c
        have ew : (wst T V true i j t).getD 99999 = if xopens T i t + tsc T 0 < q then xopens T i t + tsc T 0 else q := by
          unfold wst
          rw [if_pos ⟨rfl, c, c2⟩, hq, hso]
          by_cases q0 : 0 < tst T i j
          · rw [if_pos q0, if_pos q0]
            rfl
          · rw [if_neg q0, if_neg q0]
            show xopens T i t + tsc T 0 = if _ < 99999 then _ else _
            rw [if_pos (by omega)]
        rw [ew]
        clear ew
        refine Wp.vc 400 [71, 77] rfl ?_
        refine ⟨fun _ => ?_, fun w => absurd rfl w⟩
        have key : ∀ (r : Int), (t ≤ r ∧ r ≤ t + 60 * (24 - xdis T i r) ∧ xopens T i r = xopens T i t) → Wp (d + 2) 198 77 [some (.inr (.inr m)), some (.inl i), some (.inl j), some (.inl t), some (.inl 1), some (.inl q), some (.inl r)] [] h (XE (some (.inl (if xopens T i t + tsc T 0 < q then xopens T i t + tsc T 0 else q))) h) := by
          refine loopM (fun r => (xdis T i r).toNat) ?_
          rintro r ⟨q0, q1, q2⟩ ihl
          have dr := xdis_rg T i r
          have em : r.tmod 1440 = r % 1440 := Int.tmod_eq_emod_of_nonneg (by omega)
          have ed : r.tmod 60 = r % 60 := Int.tmod_eq_emod_of_nonneg (by omega)
          have ee : tOpen T i (r % 1440) ↔ tOpen T i r := by unfold tOpen; rw [Int.emod_emod_of_dvd r (Int.dvd_refl 1440)]
          refine Wp.vc 400 [77] rfl ?_
          rw [em]
          refine ⟨isF tm rfl, ⟨by decide, Or.inl (by omega)⟩, ?_⟩
          refine Wp.callE (j := 0) rfl (Nat.le_of_ble_eq_true rfl) ⟨true, c0⟩ (ih (r % 1440) (by omega)) ?_
          by_cases c3 : tOpen T i r
          · rw [if_pos (ee.mpr c3)]
            rw [xopens_yes c3] at q2
            refine Wp.vc 400 [77] rfl ?_
            rw [f133, ← q2]
            refine ⟨fun _ => ⟨isF tm rfl, isF c0 rfl, ⟨by omega, by omega⟩, fun w => ⟨trivial, ?_⟩, fun w => ⟨isF tm rfl, isF c0 rfl, ⟨by omega, by omega⟩, trivial, ?_⟩⟩, fun w => absurd (show ¬ (1 : Int) = 0 by decide) w⟩
            · rw [if_neg (by omega)]
              exact ⟨rfl, rfl⟩
            · rw [if_pos (by omega)]
              exact ⟨rfl, rfl⟩
          · rw [if_neg (fun w => c3 (ee.mp w))]
            have ds := xdis_step o (by omega) c3
            have dr2 := xdis_rg T i (60 * (r / 60 + 1))
            have er : r + (60 - r % 60) = 60 * (r / 60 + 1) := by omega
            refine Wp.vc 400 [77] rfl ?_
            rw [ed, er]
            refine ⟨fun w => absurd rfl w, fun _ => ⟨⟨by decide, Or.inl (by omega)⟩, ⟨by omega, by omega⟩, ⟨by omega, by omega⟩, ihl (60 * (r / 60 + 1)) ?_ ⟨by omega, ?_, ?_⟩⟩⟩
            · omega
            · rw [ds]; omega
            · rw [← xopens_step o (by omega) c3, q2]
        have := xdis_rg T i t
        exact key t ⟨Int.le_refl _, by omega, rfl⟩
  refine WpM.of rfl (Wp.vc 400 [40] rfl ?_)
  rw [v]
  refine ⟨isF tm rfl, isF c0 rfl, ⟨by omega, by omega⟩, ⟨by omega, by omega⟩, gi, fun c => ?_, fun c => ⟨isF tm rfl, isF c0 rfl, ⟨by omega, by omega⟩, ⟨by omega, by omega⟩, gi, ⟨by omega, by omega⟩, ?_⟩⟩
  · exact at40 99999 none (by rw [if_neg (by omega)]) rfl
  · exact at40 (t + tst T i j) (some (t + tst T i j)) (by rw [if_pos (by omega)]) rfl
theorem m_canStep {d : Nat} {h : XH} {B m n i j t k : Int} {b : Bool} {T : XTw} {V : Int → Int} (C : MCtx h B m n T V) (i0 : 0 ≤ i ∧ i < tnh T) (j0 : 0 ≤ j ∧ j < tnh T) (t0 : 0 ≤ t ∧ t ≤ 20000) (k0 : 1 ≤ k ∧ k < 7) (r1 : xar h (m + 6) (k - 1) = i) (r2 : xar h (m + 6) k = j) (r3 : xar h (m + 8) (k - 1) = t) : WpM (d + 3) 197 [.inr (.inr m), .inl k, .inl (xbi b)] h (XE (some (.inl (if (wst T V b i j t).isSome = true then 1 else 0))) (xputa h (m + 8) k ((wst T V b i j t).getD 99999))) := by
  have st := m_steps (d := d) (b := b) C i0 j0 t0
  have hn := C.2.2.2.1.2.2.1
  have rg := fun v => wst_rg (v := v) (b := b) C.2.2.2.1 (i := i) (j := j) (V := V) ⟨i0.1, by omega⟩ ⟨j0.1, by omega⟩ t0.1
  have tm := C.2.1.1
  obtain ⟨t6, f6⟩ := C.2.1.2.2.2.2.2.2.1
  obtain ⟨t8, f8⟩ := C.2.1.2.2.2.2.2.2.2.2.1
  clear C
  refine WpM.of rfl (Wp.vc 400 [] rfl ?_)
  rw [f6, f8, r1, r2, r3]
  refine ⟨isF tm rfl, isF tm rfl, ⟨by omega, by omega⟩, isA t6 (by omega) (by omega), isF tm rfl, isA t6 (by omega) (by omega), isF tm rfl, ⟨by omega, by omega⟩, isA t8 (by omega) (by omega), ?_⟩
  refine Wp.callE (j := 0) rfl (Nat.le_of_ble_eq_true rfl) ⟨true, tm⟩ st ?_
  refine Wp.vc 400 [] rfl ?_
  rw [show xfl (xputa h (m + 8) k ((wst T V b i j t).getD 99999)) m 91 = m + 8 from f8, show xar (xputa h (m + 8) k ((wst T V b i j t).getD 99999)) (m + 8) k = (wst T V b i j t).getD 99999 by rw [xar_puta, if_pos ⟨rfl, rfl⟩]]
  refine ⟨isB t8 (by omega) (by omega), isF tm rfl, isA t8 (by omega) (by omega), fun c => ⟨⟨by decide, by decide⟩, ?_⟩, fun c => ⟨⟨by decide, by decide⟩, ?_⟩⟩
  · cases hw : wst T V b i j t with
    | none => exact ⟨rfl, rfl⟩
    | some v =>
      rw [hw] at c
      have := rg v hw
      have c : 99999 ≤ v := c
      omega
  · cases hw : wst T V b i j t with
    | none =>
      rw [hw] at c
      exact absurd (Int.le_refl _) c
    | some v => exact ⟨rfl, rfl⟩
def WaccM (h : XH) (m : Int) (acc : Option (Int × List Int)) : Prop := match acc with
  | none => xfl h m 90 = 99999 ∧ xfl h m 89 = 0
  | some a => (xfl h m 90 = a.1 ∧ a.1 ≤ 90000) ∧ (xfl h m 89 = (a.2.length : Int) ∧ a.2.length ≤ 7) ∧ ∀ j : Nat, j < a.2.length → xar h (m + 7) (j : Int) = a.2.getD j 0
def RowM (h : XH) (m : Int) (p : List Int) : Prop := ∀ j : Nat, j < p.length → xar h (m + 6) (j : Int) = p.getD j 0
def TimM (h : XH) (m : Int) (p : List Int) : Prop := ∀ j : Nat, j < p.length → xar h (m + 8) (j : Int) = p.getD j 0
theorem m_ends {d : Nat} {h : XH} {B m n t : Int} {p : List Int} {acc : Option (Int × List Int)} {T : XTw} {V : Int → Int} (C : MCtx h B m n T V) (p0 : 1 ≤ p.length ∧ p.length ≤ 7) (t0 : 0 ≤ t ∧ t ≤ 20000) (R : RowM h m p) (r3 : xar h (m + 8) ((p.length : Int) - 1) = t) (A : WaccM h m acc) : WpM d 196 [.inr (.inr m), .inl (p.length : Int)] h (XRet fun v h' => v = none ∧ XFr (fun z f => z = m ∧ (f = 89 ∨ f = 90)) (fun z => z = m + 7) h h' ∧ xsz h' = xsz h ∧ xsl h' = xsl h ∧ WaccM h' m (wbO acc (t, p))) := by
  have tm := C.2.1.1
  obtain ⟨t6, f6⟩ := C.2.1.2.2.2.2.2.2.1
  obtain ⟨t7, f7⟩ := C.2.1.2.2.2.2.2.2.2.1
  obtain ⟨t8, f8⟩ := C.2.1.2.2.2.2.2.2.2.2.1
  have bm := C.1
  clear C
  refine WpM.of rfl (Wp.vc 400 [35] rfl ?_)
  rw [f8, r3]
  refine ⟨isF tm rfl, ⟨by omega, by omega⟩, isA t8 (by omega) (by omega), isF tm rfl, fun c => ?_, fun c => ⟨trivial, none, rfl, rfl, XFr.refl h, rfl, rfl, ?_⟩⟩
  · have c : t < xfl h m 90 := c
    have ea : wbO acc (t, p) = some (t, p) := by
      unfold WaccM at A
      unfold wbO
      split
      · rfl
      · next a0 =>
        have A : (xfl h m 90 = a0.1 ∧ a0.1 ≤ 90000) ∧ _ := A
        exact if_pos (by show t < a0.1; omega)
    rw [ea]
    refine ⟨isF tm rfl, ⟨by omega, by omega⟩, isA t8 (by omega) (by omega), isW tm rfl, isW tm rfl, ?_⟩
    obtain ⟨g, hg⟩ : ∃ g, g = xputf (xputf h m 90 t) m 89 (p.length : Int) := ⟨_, rfl⟩
    have F : XFr (fun z f => z = m ∧ (f = 89 ∨ f = 90)) (fun z => z = m + 7) h g := by
      rw [hg]
      exact ((XFr.refl h).putf (Or.inr ⟨rfl, Or.inr rfl⟩)).putf (Or.inr ⟨rfl, Or.inl rfl⟩)
    have zg : xsz g = xsz h ∧ xsl g = xsl h := by rw [hg]; exact ⟨rfl, rfl⟩
    have f90 : xfl g m 90 = t ∧ xfl g m 89 = (p.length : Int) := by
      rw [hg]
      exact ⟨(by (first | assumption | ((try simp only [xcs_putf, xty_putf, xar_putf, xsz_putf, xsl_putf, xfl_putf, xcs_puta, xty_puta, xfl_puta, xsz_puta, xsl_puta, xar_puta, xcs_copy, xty_copy, xfl_copy, xsz_copy, xsl_copy, xar_copy, xcs_newo, xar_newo, xsz_newo, xsl_newo, xty_newo, xfl_newo, xcs_newa, xfl_newa, xsz_newa, xsl_newa, xty_newa, xar_newa, and_true, true_and, and_false, false_and, ite_true, ite_false, eq_self, and_self]) <;> (repeat (first | rw [if_pos (by omega)] | rw [if_neg (by omega)])) <;> (first | assumption | rfl | omega)))), (by (first | assumption | ((try simp only [xcs_putf, xty_putf, xar_putf, xsz_putf, xsl_putf, xfl_putf, xcs_puta, xty_puta, xfl_puta, xsz_puta, xsl_puta, xar_puta, xcs_copy, xty_copy, xfl_copy, xsz_copy, xsl_copy, xar_copy, xcs_newo, xar_newo, xsz_newo, xsl_newo, xty_newo, xfl_newo, xcs_newa, xfl_newa, xsz_newa, xsl_newa, xty_newa, xar_newa, and_true, true_and, and_false, false_and, ite_true, ite_false, eq_self, and_self]) <;> (repeat (first | rw [if_pos (by omega)] | rw [if_neg (by omega)])) <;> (first | assumption | rfl | omega))))⟩
    have tg : ∀ x, xty g x = xty h x := by rw [hg]; intro x; rfl
    have ag : ∀ x, xar g x = xar h x := by rw [hg]; intro x; rfl
    have fg : xfl g m 87 = m + 6 ∧ xfl g m 88 = m + 7 := by
      rw [hg]
      exact ⟨(by (first | assumption | ((try simp only [xcs_putf, xty_putf, xar_putf, xsz_putf, xsl_putf, xfl_putf, xcs_puta, xty_puta, xfl_puta, xsz_puta, xsl_puta, xar_puta, xcs_copy, xty_copy, xfl_copy, xsz_copy, xsl_copy, xar_copy, xcs_newo, xar_newo, xsz_newo, xsl_newo, xty_newo, xfl_newo, xcs_newa, xfl_newa, xsz_newa, xsl_newa, xty_newa, xar_newa, and_true, true_and, and_false, false_and, ite_true, ite_false, eq_self, and_self]) <;> (repeat (first | rw [if_pos (by omega)] | rw [if_neg (by omega)])) <;> (first | assumption | rfl | omega)))), (by (first | assumption | ((try simp only [xcs_putf, xty_putf, xar_putf, xsz_putf, xsl_putf, xfl_putf, xcs_puta, xty_puta, xfl_puta, xsz_puta, xsl_puta, xar_puta, xcs_copy, xty_copy, xfl_copy, xsz_copy, xsl_copy, xar_copy, xcs_newo, xar_newo, xsz_newo, xsl_newo, xty_newo, xfl_newo, xcs_newa, xfl_newa, xsz_newa, xsl_newa, xty_newa, xar_newa, and_true, true_and, and_false, false_and, ite_true, ite_false, eq_self, and_self]) <;> (repeat (first | rw [if_pos (by omega)] | rw [if_neg (by omega)])) <;> (first | assumption | rfl | omega))))⟩
    rw [← hg]
    clear hg
    have key : ∀ (k : Int) (g' : XH), k ≤ (p.length : Int) → (0 ≤ k ∧ XFr (fun _ _ => False) (fun z => z = m + 7) g g' ∧ xsz g' = xsz g ∧ xsl g' = xsl g ∧ ∀ j : Nat, (j : Int) < k → xar g' (m + 7) (j : Int) = p.getD j 0) → Wp d 196 35 [some (.inr (.inr m)), some (.inl (p.length : Int)), some (.inl k)] [] g' (XRet fun v h' => v = none ∧ XFr (fun z f => z = m ∧ (f = 89 ∨ f = 90)) (fun z => z = m + 7) h h' ∧ xsz h' = xsz h ∧ xsl h' = xsl h ∧ WaccM h' m (some (t, p))) := by
      refine loopUp (G := fun k g' => Wp d 196 35 [some (.inr (.inr m)), some (.inl (p.length : Int)), some (.inl k)] [] g' (XRet fun v h' => v = none ∧ XFr (fun z f => z = m ∧ (f = 89 ∨ f = 90)) (fun z => z = m + 7) h h' ∧ xsz h' = xsz h ∧ xsl h' = xsl h ∧ WaccM h' m (some (t, p)))) (p.length : Int) ?_ ?_
      · rintro k g' ⟨k0, q, z1, z2, hk⟩ hkn ih
        have fl : ∀ f, xfl g' m f = xfl g m f := fun f => q.2.2.2.1 m f (by omega) (fun w => w)
        have ty : ∀ c : Int, c < 16 → xty g' (m + c) = xty h (m + c) := fun c hc => (q.2.2.1 _ (by omega)).trans (tg _)
        have tm' : xty g' m = some (true, 9, none) := (q.2.2.1 _ (by omega)).trans ((tg _).trans tm)
        have a6 : ∀ i, xar g' (m + 6) i = xar h (m + 6) i := fun i => (q.2.2.2.2 _ i (by omega) (fun w => by omega)).trans (by rw [ag])
        have rk := R k.toNat (by omega)
        rw [show ((k.toNat : Nat) : Int) = k by omega] at rk
        refine Wp.vc 400 [35] rfl ?_
        rw [fl 88, fl 87, fg.1, fg.2, a6, rk]
        refine ⟨fun w => absurd w (by omega), fun _ => ⟨isF tm' rfl, isF tm' rfl, isA ((ty 6 (by decide)).trans t6) k0 (by omega), isB ((ty 7 (by decide)).trans t7) k0 (by omega), ⟨by omega, by omega⟩, ih _ ⟨by omega, q.puta (Or.inr rfl), z1, z2, fun j hj => ?_⟩⟩⟩
        rw [xar_puta]
        by_cases e : (j : Int) = k
        · rw [if_pos ⟨rfl, e⟩, show k.toNat = j by omega]
        · rw [if_neg (fun w => e w.2)]
          exact hk j (by omega)
      · rintro g' ⟨k0, q, z1, z2, hk⟩
        have fl : ∀ f, xfl g' m f = xfl g m f := fun f => q.2.2.2.1 m f (by omega) (fun w => w)
        refine Wp.vc 400 [35] rfl ?_
        refine ⟨fun _ => ⟨trivial, none, rfl, rfl, F.trans q (fun _ _ _ w => w.elim) (fun _ _ w => w), z1.trans zg.1, z2.trans zg.2, ⟨(fl 90).trans f90.1, by show t ≤ _; omega⟩, ⟨(fl 89).trans f90.2, p0.2⟩, fun j hj => hk j (by have hj : j < p.length := hj; omega)⟩, fun w => absurd (Int.le_refl _) w⟩
    exact key 0 g (by omega) ⟨Int.le_refl _, XFr.refl g, rfl, rfl, fun j hj => by omega⟩
  · have c : xfl h m 90 ≤ t := Int.not_lt.mp c
    have ea : wbO acc (t, p) = acc := by
      unfold WaccM at A
      unfold wbO
      split
      · have A : xfl h m 90 = 99999 ∧ _ := A
        omega
      · next a0 =>
        have A : (xfl h m 90 = a0.1 ∧ a0.1 ≤ 90000) ∧ _ := A
        exact if_neg (by show ¬ t < a0.1; omega)
    rw [ea]
    exact A
