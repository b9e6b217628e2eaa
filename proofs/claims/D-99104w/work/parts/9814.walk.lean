/-! WALKS, 53: rows of exchanges: WrongRoomModel's search -/
set_option maxRecDepth 100000
set_option maxHeartbeats 4000000
def AccM (h : XH) (m : Int) (acc : Int × List Int) : Prop := xfl h m 101 = acc.1 ∧ (-1 ≤ acc.1 ∧ acc.1 ≤ 7) ∧ (acc.1 ≠ -1 → xfl h m 102 = (acc.2.length : Int) ∧ acc.2.length ≤ 3 ∧ ∀ j : Nat, j < acc.2.length → xar h (m + 14) (j : Int) = acc.2.getD j 0 ∧ 0 ≤ acc.2.getD j 0 ∧ acc.2.getD j 0 < 49)
theorem AccM.keep {W : Int → Nat → Prop} {A : Int → Prop} {h g : XH} {m : Int} {acc : Int × List Int} (p : XFr W A h g) (b : m + 16 ≤ xsz h) (hW : ¬ W m 101 ∧ ¬ W m 102) (hA : ¬ A (m + 14)) (a : AccM h m acc) : AccM g m acc := ⟨(p.2.2.2.1 m 101 (by omega) hW.1).trans a.1, a.2.1, fun ne => ⟨(p.2.2.2.1 m 102 (by omega) hW.2).trans (a.2.2 ne).1, (a.2.2 ne).2.1, fun j hj => ⟨(p.2.2.2.2 _ _ (by omega) hA).trans ((a.2.2 ne).2.2 j hj).1, ((a.2.2 ne).2.2 j hj).2⟩⟩⟩
theorem Pair3.keep {W : Int → Nat → Prop} {A : Int → Prop} {h g : XH} {m : Int} {l : List Int} (p : XFr W A h g) (b : m + 16 ≤ xsz h) (hA : ¬ A (m + 13)) (a : Pair3 h m l) : Pair3 g m l := fun j hj => (p.2.2.2.2 _ _ (by omega) hA).trans (a j hj)
def exN (n : Int) (M : Nat) (ρ : Int → Int) (acc : Int × List Int) (N : Int) : Int × List Int := ((nds N).filterMap (exr n M ρ)).foldl (exb n) acc
theorem exN_none {n : Int} {M : Nat} {ρ : Int → Int} {acc : Int × List Int} {N : Int} (N0 : 0 ≤ N) (e : runE n (tupN M N) ρ = none) : exN n M ρ acc (N + 1) = exN n M ρ acc N := by
  unfold exN
  rw [nds_succ N0, List.filterMap_append, List.foldl_append, show [N].filterMap (exr n M ρ) = [] by rw [List.filterMap_cons, show exr n M ρ N = none by unfold exr; rw [e]; rfl]; rfl]
  rfl
theorem exN_some {n : Int} {M : Nat} {ρ w : Int → Int} {acc : Int × List Int} {N : Int} (N0 : 0 ≤ N) (e : runE n (tupN M N) ρ = some w) : exN n M ρ acc (N + 1) = exb n (exN n M ρ acc N) (tupN M N, w) := by
  unfold exN
  rw [nds_succ N0, List.filterMap_append, List.foldl_append, show [N].filterMap (exr n M ρ) = [(tupN M N, w)] by rw [List.filterMap_cons, show exr n M ρ N = some (tupN M N, w) by unfold exr; rw [e]; rfl]; rfl]
  rfl
theorem tup_zero : ∀ {M j : Nat}, (tupN M 0).getD j 0 = 0
  | 0, _ => rfl
  | M + 1, 0 => Int.zero_ediv _
  | M + 1, j + 1 => by
    show (tupN M (0 % _)).getD j 0 = 0
    rw [Int.zero_emod]
    exact tup_zero
theorem m_seeksOf {d : Nat} {h : XH} {B m n : Int} {T : XTw} {V : Int → Int} {M : Nat} {acc : Int × List Int} (C : MCtx h B m n T V) (M3 : M ≤ 3) (A : AccM h m acc) : WpM (d + 2) 222 [.inr (.inr m), .inl (M : Int)] h (XRet fun v h' => v = none ∧ FrS m h h' ∧ AccM h' m ((exs (tnh T) M V).foldl (exb (tnh T)) acc)) := by
  have hn := C.2.2.2.1.2.2.1
  have RO : RowOK V (tnh T) := fun i i0 i1 => by
    have := C.2.2.2.2.1.1 i i0 i1
    omega
  obtain ⟨K, eK⟩ : ∃ K : Int, K = ((49 ^ M : Nat) : Int) := ⟨_, rfl⟩
  have Kp : 0 < K := by rw [eK]; exact Int.natCast_pos.mpr (Nat.pow_pos (by decide))
  have fin : (exs (tnh T) M V).foldl (exb (tnh T)) acc = exN (tnh T) M V acc K := by rw [exs_num, eK]; rfl
  rw [fin]
  have main : ∀ (N : Int) (h2 : XH), N ≤ K → (0 ≤ N ∧ FrS m h h2 ∧ (N < K → Pair3 h2 m (tupN M N)) ∧ AccM h2 m (exN (tnh T) M V acc N)) → ∀ l3, Wp (d + 2) 222 22 [some (.inr (.inr m)), some (.inl (M : Int)), some (.inl (if N < K then 1 else 0)), l3] [] h2 (XRet fun v h' => v = none ∧ FrS m h h' ∧ AccM h' m (exN (tnh T) M V acc K)) := by
    refine loopUp (G := fun N h2 => ∀ l3, Wp (d + 2) 222 22 [some (.inr (.inr m)), some (.inl (M : Int)), some (.inl (if N < K then 1 else 0)), l3] [] h2 (XRet fun v h' => v = none ∧ FrS m h h' ∧ AccM h' m (exN (tnh T) M V acc K))) K ?_ ?_
    · rintro N h2 ⟨N0, F2, P2, A2⟩ hN ih l3
      rw [if_pos hN]
      have P2 := P2 hN
      have C2 := C.keep F2
      have tm := C2.2.1.1
      have tl := tupN_len M N
      have tr := tup_rg M N N0 (eK ▸ hN)
      -- the next tuple
      have at99 : ∀ h5 l2 l3, FrS m h2 h5 → Pair3 h5 m (tupN M N) → AccM h5 m (exN (tnh T) M V acc (N + 1)) → Wp (d + 2) 222 99 [some (.inr (.inr m)), some (.inl (M : Int)), l2, l3] [] h5 (XRet fun v h' => v = none ∧ FrS m h h' ∧ AccM h' m (exN (tnh T) M V acc K)) := by
        intro h5 l2 l3 F5 P5 A5
        have C5 := C.keep (F2.trans F5)
        have np := m_nextPairs (d := d + 1) C5 (by omega) tr P5
        rw [tl] at np
        refine Wp.vc 400 [22] rfl ?_
        refine Wp.callR (j := 0) rfl (Nat.le_of_ble_eq_true rfl) ⟨true, C5.2.1.1⟩ np (fun v h6 q => ?_)
        obtain ⟨F6, nx⟩ := q
        obtain ⟨rfl, p6⟩ := tup_next (v := v) M3 ⟨N0, eK ▸ hN⟩ nx
        rw [← eK] at p6 ⊢
        have b := C5.1
        refine Wp.vc 400 [22] rfl ?_
        exact ih h6 ⟨by omega, (F2.trans F5).trans F6.frs, fun c j hj => p6 c j (by rw [tupN_len] at hj; exact hj), A5.keep F6.1 (by omega) ⟨fun w => w, fun w => w⟩ (fun w => by omega)⟩ l3
      have b2 := C2.1
      have tr3 := m_tries (d := d + 1) C2.2.1 (by omega)
      refine Wp.vc 400 [22, 99] rfl ?_
      refine ⟨fun w => absurd w (by decide), fun _ => ?_⟩
      refine Wp.callR (j := 0) rfl (Nat.le_of_ble_eq_true rfl) ⟨true, tm⟩ tr3 (fun v h3 q => ?_)
      obtain ⟨rfl, q1, q2, q3, q4⟩ := q
      have F3 : Fr5 m h2 h3 := ⟨q2, q3, q4⟩
      have C3 := C.keep (F2.trans F3.frs)
      have R3 : Row5 h3 m (tnh T) V := ⟨fun i i0 i1 => (q1 i i0 (by omega)).trans (C2.2.2.2.2.2 i i0 (by omega)), fun i i0 i1 => (q1 i (by omega) i1).trans ((C2.2.2.2.2.2 i (by omega) (by omega)).trans (C.2.2.2.2.1.2.2.1 i i0 i1))⟩
      have P3 : Pair3 h3 m (tupN M N) := P2.keep F3.1 (by omega) (fun w => by omega)
      have A3 : AccM h3 m (exN (tnh T) M V acc N) := A2.keep F3.1 (by omega) ⟨fun w => w, fun w => w⟩ (fun w => by omega)
      have ad := m_areDone (d := d) C3 (by omega) (fun c hc => by
        obtain ⟨j, hj, e⟩ := List.mem_iff_getElem.mp hc
        have := tr j hj
        rw [List.getD_eq_getElem?_getD, List.getElem?_eq_getElem hj] at this
        rw [← e]
        exact this) P3 R3 RO
      rw [tl] at ad
      refine Wp.vc 400 [22, 99] rfl ?_
      refine Wp.callR (j := 0) rfl (Nat.le_of_ble_eq_true rfl) ⟨true, C3.2.1.1⟩ ad (fun v h4 q => ?_)
      obtain ⟨rfl, F4, w4⟩ := q
      have C4 := C.keep ((F2.trans F3.frs).trans F4.frs)
      have b3 := C3.1
      have b4 := C4.1
      have P4 : Pair3 h4 m (tupN M N) := P3.keep F4.1 (by omega) (fun w => by omega)
      have A4 : AccM h4 m (exN (tnh T) M V acc N) := A3.keep F4.1 (by omega) ⟨fun w => w, fun w => w⟩ (fun w => by omega)
      cases er : runE (tnh T) (tupN M N) V with
      | none =>
        have nx := at99 h4 (some (.inl 1)) l3 (F3.frs.trans F4.frs) P4 (by rw [exN_none N0 er]; exact A4)
        refine Wp.vc 400 [22, 99] rfl ?_
        exact ⟨fun _ => nx, fun w => absurd rfl w⟩
      | some w =>
        obtain ⟨Rw, ROw⟩ := w4 w er
        have tm4 := C4.2.1.1
        obtain ⟨t5, f86⟩ := C4.2.1.2.2.2.2.2.1
        obtain ⟨t13, f99⟩ := C4.2.1.2.2.2.2.2.2.2.2.2.2.2.2.2.1
        obtain ⟨t14, f100⟩ := C4.2.1.2.2.2.2.2.2.2.2.2.2.2.2.2.2.1
        have RO4 : RowOK (xar h4 (m + 5)) (tnh T) := fun i i0 i1 => by rw [Rw.1 i i0 i1]; exact ROw i i0 i1
        have pI := m_pairedIn (d := d + 1) t5 (by omega) hn.2 RO4 Rw.2
        rw [xmutual_congr RO4 Rw.1] at pI
        have mr := xmutual_rg w (n := tnh T) ⟨by omega, hn.2⟩
        have bI := m_bits (d := d + 1) (h := h4) _ mr
        have xr := xones_rg (xmutual w (tnh T))
        have eN := exN_some (acc := acc) N0 er
        unfold exb at eN
        refine Wp.vc 400 [22, 99] rfl ?_
        rw [f86]
        refine ⟨fun c => absurd c (show ¬ (1 : Int) = 0 by decide), fun _ => ⟨isF tm4 rfl, ?_⟩⟩
        refine Wp.callE (j := 0) rfl (Nat.le_of_ble_eq_true rfl) trivial pI ?_
        refine Wp.callE (j := 0) rfl (Nat.le_of_ble_eq_true rfl) trivial bI ?_
        refine Wp.vc 400 [22, 99] rfl ?_
        have F24 : FrS m h2 h4 := F3.frs.trans F4.frs
        rw [A4.1]
        refine ⟨isF tm4 rfl, fun le => at99 h4 _ _ F24 P4 (by rw [eN]; exact (if_neg (show ¬ (exN (tnh T) M V acc N).1 < xones (xmutual w (tnh T)) by omega)).symm ▸ A4), fun lt => ⟨isF tm4 rfl, ?_⟩⟩
        have eN2 : exN (tnh T) M V acc (N + 1) = (xones (xmutual w (tnh T)), tupN M N) := eN.trans (if_pos (show (exN (tnh T) M V acc N).1 < xones (xmutual w (tnh T)) by omega))
        rw [f86]
        refine Wp.callE (j := 0) rfl (Nat.le_of_ble_eq_true rfl) trivial pI ?_
        refine Wp.callE (j := 0) rfl (Nat.le_of_ble_eq_true rfl) trivial bI ?_
        refine Wp.vc 400 [76, 99] rfl ?_
        refine ⟨isW tm4 rfl, isW tm4 rfl, ?_⟩
        obtain ⟨g, hg⟩ : ∃ g, g = xputf (xputf h4 m 101 (xones (xmutual w (tnh T)))) m 102 (M : Int) := ⟨_, rfl⟩
        have Fg : FrS m h4 g := by
          rw [hg]
          exact ⟨((XFr.refl h4).putf (Or.inr ⟨rfl, by omega⟩)).putf (Or.inr ⟨rfl, by omega⟩), rfl, rfl⟩
        have fg : xfl g m 101 = xones (xmutual w (tnh T)) ∧ xfl g m 102 = (M : Int) := by rw [hg]; exact ⟨(by (first | assumption | ((try simp only [xcs_putf, xty_putf, xar_putf, xsz_putf, xsl_putf, xfl_putf, xcs_puta, xty_puta, xfl_puta, xsz_puta, xsl_puta, xar_puta, xcs_copy, xty_copy, xfl_copy, xsz_copy, xsl_copy, xar_copy, xcs_newo, xar_newo, xsz_newo, xsl_newo, xty_newo, xfl_newo, xcs_newa, xfl_newa, xsz_newa, xsl_newa, xty_newa, xar_newa, and_true, true_and, and_false, false_and, ite_true, ite_false, eq_self, and_self]) <;> (repeat (first | rw [if_pos (by omega)] | rw [if_neg (by omega)])) <;> (first | assumption | rfl | omega)))), (by (first | assumption | ((try simp only [xcs_putf, xty_putf, xar_putf, xsz_putf, xsl_putf, xfl_putf, xcs_puta, xty_puta, xfl_puta, xsz_puta, xsl_puta, xar_puta, xcs_copy, xty_copy, xfl_copy, xsz_copy, xsl_copy, xar_copy, xcs_newo, xar_newo, xsz_newo, xsl_newo, xty_newo, xfl_newo, xcs_newa, xfl_newa, xsz_newa, xsl_newa, xty_newa, xar_newa, and_true, true_and, and_false, false_and, ite_true, ite_false, eq_self, and_self]) <;> (repeat (first | rw [if_pos (by omega)] | rw [if_neg (by omega)])) <;> (first | assumption | rfl | omega))))⟩
        have Pg : Pair3 g m (tupN M N) := by rw [hg]; exact P4
        rw [← hg]
        clear hg
        have copy : ∀ (j : Int) (h5 : XH), j ≤ (M : Int) → (0 ≤ j ∧ (XFr (fun _ _ => False) (fun z => z = m + 14) g h5 ∧ xsz h5 = xsz g ∧ xsl h5 = xsl g) ∧ ∀ i : Nat, (i : Int) < j → xar h5 (m + 14) (i : Int) = (tupN M N).getD i 0) → Wp (d + 2) 222 76 [some (.inr (.inr m)), some (.inl (M : Int)), some (.inl 1), some (.inl j)] [] h5 (XRet fun v h' => v = none ∧ FrS m h h' ∧ AccM h' m (exN (tnh T) M V acc K)) := by
          refine loopUp (G := fun j h5 => Wp (d + 2) 222 76 [some (.inr (.inr m)), some (.inl (M : Int)), some (.inl 1), some (.inl j)] [] h5 (XRet fun v h' => v = none ∧ FrS m h h' ∧ AccM h' m (exN (tnh T) M V acc K))) (M : Int) ?_ ?_
          · rintro j h5 ⟨j0, ⟨p, z1, z2⟩, c5⟩ hj ihj
            have F5 : FrS m g h5 := ⟨p.mono (fun _ _ _ w => w.elim) (fun z _ w => by omega), z1, z2⟩
            have C5 := C.keep (((F2.trans F24).trans Fg).trans F5)
            have tm5 := C5.2.1.1
            obtain ⟨t13, f99⟩ := C5.2.1.2.2.2.2.2.2.2.2.2.2.2.2.2.1
            obtain ⟨t14, f100⟩ := C5.2.1.2.2.2.2.2.2.2.2.2.2.2.2.2.2.1
            have bg := Fg.2.1
            have pj : xar h5 (m + 13) j = (tupN M N).getD j.toNat 0 := by
              have := (Pg.keep p (by omega) (fun w => by omega)) j.toNat (by omega)
              rwa [Int.toNat_of_nonneg j0] at this
            refine Wp.vc 400 [76, 99] rfl ?_
            rw [f100, f99, pj]
            refine ⟨fun c => absurd c (by omega), fun _ => ⟨isF tm5 rfl, isF tm5 rfl, isA t13 j0 (by omega), isB t14 j0 (by omega), by omega, ihj _ ⟨by omega, ⟨p.puta (Or.inr rfl), z1, z2⟩, fun i hi => ?_⟩⟩⟩
            rw [xar_puta]
            by_cases e : (i : Int) = j
            · rw [if_pos ⟨rfl, e⟩, ← e]
              rfl
            · rw [if_neg (fun w => e w.2)]
              exact c5 i (by omega)
          · rintro h5 ⟨j0, ⟨p, z1, z2⟩, c5⟩
            have F5 : FrS m g h5 := ⟨p.mono (fun _ _ _ w => w.elim) (fun z _ w => by omega), z1, z2⟩
            have bg := Fg.2.1
            have nx := at99 h5 (some (.inl 1)) (some (.inl (M : Int))) ((F24.trans Fg).trans F5) (Pg.keep p (by omega) (fun w => by omega)) (by
              rw [eN2]
              refine ⟨(p.2.2.2.1 m 101 (by omega) (fun w => w)).trans fg.1, ⟨by show -1 ≤ xones (xmutual w (tnh T)); omega, xr.2⟩, fun _ => ⟨((p.2.2.2.1 m 102 (by omega) (fun w => w)).trans fg.2).trans ?_, by show (tupN M N).length ≤ 3; omega, fun j hj => ⟨c5 j (by have : j < (tupN M N).length := hj; omega), tr j hj⟩⟩⟩
              show (M : Int) = ((tupN M N).length : Int)
              omega)
            refine Wp.vc 400 [99] rfl ?_
            exact ⟨fun _ => nx, fun c => absurd (Int.le_refl _) c⟩
        exact copy 0 g (by omega) ⟨Int.le_refl _, ⟨XFr.refl g, rfl, rfl⟩, fun i hi => by omega⟩
    · rintro h2 ⟨N0, F2, -, A2⟩ l3
      rw [if_neg (by omega)]
      refine Wp.vc 400 [] rfl ?_
      exact ⟨fun _ => ⟨trivial, none, rfl, rfl, F2, A2⟩, fun w => absurd rfl w⟩
  -- the first loop
  have first : ∀ (k : Int) (h2 : XH), k ≤ (M : Int) → (0 ≤ k ∧ (XFr (fun _ _ => False) (fun z => z = m + 13) h h2 ∧ xsz h2 = xsz h ∧ xsl h2 = xsl h) ∧ ∀ i : Nat, (i : Int) < k → xar h2 (m + 13) (i : Int) = 0) → Wp (d + 2) 222 2 [some (.inr (.inr m)), some (.inl (M : Int)), some (.inl k), none] [] h2 (XRet fun v h' => v = none ∧ FrS m h h' ∧ AccM h' m (exN (tnh T) M V acc K)) := by
    refine loopUp (G := fun k h2 => Wp (d + 2) 222 2 [some (.inr (.inr m)), some (.inl (M : Int)), some (.inl k), none] [] h2 (XRet fun v h' => v = none ∧ FrS m h h' ∧ AccM h' m (exN (tnh T) M V acc K))) (M : Int) ?_ ?_
    · rintro k h2 ⟨k0, ⟨p, z1, z2⟩, c2⟩ hk ihk
      have F2 : FrS m h h2 := ⟨p.mono (fun _ _ _ w => w.elim) (fun z _ w => by omega), z1, z2⟩
      have C2 := C.keep F2
      have tm2 := C2.2.1.1
      obtain ⟨t13, f99⟩ := C2.2.1.2.2.2.2.2.2.2.2.2.2.2.2.2.1
      refine Wp.vc 400 [2, 22] rfl ?_
      rw [f99]
      refine ⟨fun c => absurd c (by omega), fun _ => ⟨isF tm2 rfl, isB t13 k0 (by omega), by omega, ihk _ ⟨by omega, ⟨p.puta (Or.inr rfl), z1, z2⟩, fun i hi => ?_⟩⟩⟩
      rw [xar_puta]
      by_cases e : (i : Int) = k
      · rw [if_pos ⟨rfl, e⟩]
      · rw [if_neg (fun w => e w.2)]
        exact c2 i (by omega)
    · rintro h2 ⟨k0, ⟨p, z1, z2⟩, c2⟩
      have F2 : FrS m h h2 := ⟨p.mono (fun _ _ _ w => w.elim) (fun z _ w => by omega), z1, z2⟩
      have b := C.1
      have nx := main 0 h2 (by omega) ⟨Int.le_refl _, F2, fun _ j hj => by
        rw [tupN_len] at hj
        rw [c2 j (by omega), tup_zero]
      , A.keep p (by omega) ⟨fun w => w, fun w => w⟩ (fun w => by omega)⟩ none
      rw [if_pos Kp] at nx
      refine Wp.vc 400 [22] rfl ?_
      exact ⟨fun _ => nx, fun c => absurd (Int.le_refl _) c⟩
  refine WpM.of rfl (Wp.vc 400 [2] rfl ?_)
  exact first 0 h (by omega) ⟨Int.le_refl _, ⟨XFr.refl h, rfl, rfl⟩, fun i hi => by omega⟩
