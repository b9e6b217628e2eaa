/-! WALKS, 41: undo, mark, back: the model -/
set_option maxRecDepth 100000
set_option maxHeartbeats 4000000
theorem MU.back {B m n : Int} {h0 h g : XH} {S : XSt} {T : XTw} {V : Int → Int} {Us : List (Int → Int)} (U : MU B m n h0 h S) (e : sT S = some T) (p : XFr (fun z f => z = m ∧ f = 84) (fun z => z = m + 2) h g) (z1 : xsz g = xsz h) (z2 : xsl g = xsl h) (hv : (∀ i : Int, 0 ≤ i → i < 8 → xar g (m + 2) i = V i) ∧ (∀ q : Int, 0 ≤ q → q < tpm T → xar g (m + 2) (8 + q) = V (8 + q) ∧ xar g (m + 2) (12 + q) = V (12 + q))) (f84 : xfl g m 84 = (Us.length : Int)) (hs : ∀ (k : Nat) (W : Int → Int), Us[k]? = some W → (sU S)[k]? = some W) (VO : VOK T n V) : MU B m n h0 g (sPutU (sPutV S V) Us) := by
  obtain ⟨R, O0, q, w1, w2⟩ := U
  obtain ⟨sv, su, sm⟩ := R.parts e
  have bnd := R.1
  have hm := O0.2.1
  have hl : Us.length ≤ (sU S).length := by
    refine Nat.le_of_not_lt fun w => ?_
    have h1 := hs (sU S).length _ (List.getElem?_eq_getElem w)
    have := (List.getElem?_eq_some_iff.mp h1).1
    omega
  have p' : XFr (MW m) (fun z => m ≤ z ∧ z < m + 15) h g := p.mono (fun z f _ w => ⟨w.1, by rw [w.2]; rfl⟩) (fun z _ w => by omega)
  have fl : ∀ f, f ≠ 84 → xfl g m f = xfl h m f := fun f hf => p.2.2.2.1 m f (by omega) (fun w => hf w.2)
  have ar : ∀ c i : Int, c < 15 → c ≠ 2 → xar g (m + c) i = xar h (m + c) i := fun c i h1 h2 => p.2.2.2.2 _ i (by omega) (fun w => by omega)
  refine ⟨R.re p' rfl (fl 69 (by decide)) ⟨(fl 72 (by decide)).trans R.2.2.1.1, fun j hj => (ar 1 _ (by decide) (by decide)).trans (R.2.2.1.2 j hj)⟩ ⟨(fl 67 (by decide)).trans R.2.2.2.1.1, (fl 68 (by decide)).trans R.2.2.2.1.2.1, (fl 78 (by decide)).trans R.2.2.2.1.2.2⟩ ⟨(fl 85 (by decide)).trans R.2.2.2.2.1.1, f84⟩ (fun T' e' => ?_), ?_, q.trans p' (fun _ _ _ w => w) (fun z _ w => by omega), z1.trans w1, z2.trans w2⟩
  · rw [e] at e'
    cases e'
    refine ⟨hv, fun k V hk => ?_, fun k V hk => ?_⟩
    · have q := su k V (hs k V hk)
      exact ⟨fun i i0 i1 => (ar 3 _ (by decide) (by decide)).trans (q.1 i i0 i1), fun r r0 r1 => ⟨(ar 3 _ (by decide) (by decide)).trans (q.2 r r0 r1).1, (ar 3 _ (by decide) (by decide)).trans (q.2 r r0 r1).2⟩⟩
    · have q := sm k V hk
      exact ⟨fun i i0 i1 => (ar 4 _ (by decide) (by decide)).trans (q.1 i i0 i1), fun r r0 r1 => ⟨(ar 4 _ (by decide) (by decide)).trans (q.2 r r0 r1).1, (ar 4 _ (by decide) (by decide)).trans (q.2 r r0 r1).2⟩⟩
  · exact SOK.back O0 e VO (fun W hW => by
      obtain ⟨k, hk⟩ := List.getElem?_of_mem hW
      exact (O0.1 T e).2.2.1 W (List.mem_of_getElem? (hs k W hk))) (by omega)
theorem m_opUndo {d : Nat} {h : XH} {B m n : Int} {S : XSt} (R : Rm h B m S) (O : SOK n S) : WpM (d + 2) 249 [.inr (.inr m)] h (MAn B m h (.inl (opUndo S).1) (opUndo S).2) := by
  refine WpM.of rfl (MU.start R O rfl (fun g U => ?_))
  have tm := U.tm
  have f84 : xfl g m 84 = ((sU S).length : Int) := U.1.2.2.2.2.1.2
  have l16 := O.2.1.1
  have bad : opUndo S = sNoB S 6 → Wp (d + 2) 249 19 [some (.inr (.inr m)), none] [] g (MAn B m h (.inl (opUndo S).1) (opUndo S).2) := by
    intro e
    rw [e]
    refine Wp.vc 400 [] rfl ?_
    exact U.denied (k := 6) rfl (fun _ => rfl) rfl
  cases eL : (sU S).getLast? with
  | none =>
    have e0 : sU S = [] := List.getLast?_eq_none_iff.mp eL
    have bad := bad (by unfold opUndo; rw [eL])
    refine Wp.vc 400 [19, 26] rfl ?_
    rw [f84, e0]
    exact ⟨isF tm rfl, fun _ => bad, fun _ => ⟨isF tm rfl, fun w => absurd rfl w, fun _ => bad⟩⟩
  | some V =>
    have ne : sU S ≠ [] := fun w => by rw [w] at eL; cases eL
    obtain ⟨T, e⟩ := sOKU_T O ne
    have hl : 0 < (sU S).length := List.length_pos_iff.mpr ne
    have hg : (sU S)[(sU S).length - 1]? = some V := by rw [← List.getLast?_eq_getElem?]; exact eL
    have VV := (O.1 T e).2.2.1 V (List.mem_of_getElem? hg)
    have eo : opUndo S = (1, sBack S V (sU S).dropLast) := by unfold opUndo; rw [eL]
    rw [eo]
    obtain ⟨n0, -⟩ := U.hasT e
    have hp := (U.ok e).1.2.2.2.1
    obtain ⟨sv, su, sm⟩ := U.1.parts e
    have sl := su ((sU S).length - 1) V hg
    have c1 : (((sU S).length - 1 : Nat) : Int) = ((sU S).length : Int) - 1 := by omega
    rw [c1] at sl
    have bnd := U.bnd
    obtain ⟨t3, f82⟩ := U.lay.2.2.2.1
    obtain ⟨t2, f81⟩ := U.v2
    obtain ⟨len, hlen⟩ : ∃ len : Int, len = ((sU S).length : Int) - 1 := ⟨_, rfl⟩
    refine Wp.vc 400 [19, 38] rfl ?_
    rw [f84]
    refine ⟨isF tm rfl, fun w => absurd w n0, fun _ => ⟨isF tm rfl, fun _ => ⟨isF tm rfl, by omega, isW tm rfl, ?_⟩, fun w => absurd (Decidable.of_not_not w) (by omega)⟩⟩
    rw [← hlen] at sl ⊢
    have p0 : XFr (fun z f => z = m ∧ f = 84) (fun z => z = m + 2) g (xputf g m 84 len) := (XFr.refl g).putf (Or.inr ⟨rfl, rfl⟩)
    have e84 : xfl (xputf g m 84 len) m 84 = len := by rw [xfl_putf, if_pos ⟨rfl, rfl⟩]
    have zz : xsz (xputf g m 84 len) = xsz g ∧ xsl (xputf g m 84 len) = xsl g := ⟨rfl, rfl⟩
    obtain ⟨G, hG⟩ : ∃ G, G = xputf g m 84 len := ⟨_, rfl⟩
    rw [← hG] at p0 e84 zz ⊢
    clear hG
    have key : ∀ (j : Int) (k : XH), j ≤ 16 → (0 ≤ j ∧ XFr (fun z f => z = m ∧ f = 84) (fun z => z = m + 2) g k ∧ xsz k = xsz g ∧ xsl k = xsl g ∧ xfl k m 84 = len ∧ ∀ i : Int, 0 ≤ i → i < j → xar k (m + 2) i = xar g (m + 3) (16 * len + i)) → Wp (d + 2) 249 38 [some (.inr (.inr m)), some (.inl j)] [] k (MAn B m h (.inl (1, sBack S V (sU S).dropLast).1) (1, sBack S V (sU S).dropLast).2) := by
      refine loopUp (G := fun j k => Wp (d + 2) 249 38 [some (.inr (.inr m)), some (.inl j)] [] k (MAn B m h (.inl (1, sBack S V (sU S).dropLast).1) (1, sBack S V (sU S).dropLast).2)) 16 ?_ ?_
      · rintro j k ⟨j0, p, z1, z2, k84, i1⟩ hj ih
        have tg := (p.2.2.1 m (by omega)).trans tm
        have t3g := (p.2.2.1 (m + 3) (by omega)).trans t3
        have t2g := (p.2.2.1 (m + 2) (by omega)).trans t2
        have flg : ∀ f, f ≠ 84 → xfl k m f = xfl g m f := fun f hf => p.2.2.2.1 m f (by omega) (fun w => hf w.2)
        refine Wp.vc 400 [38] rfl ?_
        rw [(flg 82 (by decide)).trans f82, (flg 81 (by decide)).trans f81, k84, p.2.2.2.2 (m + 3) _ (by omega) (fun w => by omega)]
        refine ⟨fun w => absurd w (by omega), fun _ => ⟨isF tg rfl, isF tg rfl, isF tg rfl, by omega, by omega, isA t3g (by omega) (by omega), isB t2g j0 (by omega), by omega, ih _ ⟨by omega, p.puta (Or.inr rfl), z1, z2, k84, fun i i0 i1' => ?_⟩⟩⟩
        rw [xar_puta]
        by_cases q : i = j
        · rw [if_pos ⟨rfl, q⟩, q]
        · rw [if_neg (fun w => q w.2)]
          exact i1 i i0 (by omega)
      · rintro k ⟨j0, p, z1, z2, k84, i1⟩
        have UU := U.back (Us := (sU S).dropLast) (V := V) e p z1 z2 ⟨fun i i0 i1' => (i1 i i0 (by omega)).trans (sl.1 i i0 i1'), fun q q0 q1 => ⟨(i1 _ (by omega) (by omega)).trans (sl.2 q q0 q1).1, (i1 _ (by omega) (by omega)).trans (sl.2 q q0 q1).2⟩⟩ (by rw [k84, List.length_dropLast]; omega) (fun k W hk => by
          rw [List.getElem?_dropLast] at hk
          split at hk
          · exact hk
          · cases hk) VV
        refine Wp.vc 400 [44] rfl ?_
        exact ⟨fun _ => UU.granted rfl (fun _ => rfl) rfl, fun w => absurd (Int.le_refl _) w⟩
    exact key 0 G (by decide) ⟨Int.le_refl _, p0, zz.1, zz.2, e84, fun i i0 i1 => by omega⟩
theorem m_opBack {d : Nat} {h : XH} {B m n k : Int} {S : XSt} (R : Rm h B m S) (O : SOK n S) : WpM (d + 2) 251 [.inr (.inr m), .inl k] h (MAn B m h (.inl (opBack S k).1) (opBack S k).2) := by
  refine WpM.of rfl (MU.start R O rfl (fun g U => ?_))
  have tm := U.tm
  have f85 : xfl g m 85 = ((sM S).length : Int) := U.1.2.2.2.2.1.1
  have l3 := O.2.1.2
  have bad : opBack S k = sNoB S 1 → Wp (d + 2) 251 24 [some (.inr (.inr m)), some (.inl k), none] [] g (MAn B m h (.inl (opBack S k).1) (opBack S k).2) := by
    intro e
    rw [e]
    refine Wp.vc 400 [] rfl ?_
    exact U.denied (k := 1) rfl (fun _ => rfl) rfl
  by_cases c : 0 ≤ k ∧ k < ((sM S).length : Int)
  · have hk : k.toNat < (sM S).length := by omega
    obtain ⟨V, hV⟩ : ∃ V, (sM S)[k.toNat]? = some V := ⟨_, List.getElem?_eq_getElem hk⟩
    have ne : sM S ≠ [] := fun w => by rw [w] at hk; exact absurd hk (Nat.not_lt_zero _)
    obtain ⟨T, e⟩ := sOKM_T O ne
    have VV := (O.1 T e).2.2.2 V (List.mem_of_getElem? hV)
    rw [opBack_yes c.1 hV]
    obtain ⟨n0, -⟩ := U.hasT e
    have hp := (U.ok e).1.2.2.2.1
    obtain ⟨sv, su, sm⟩ := U.1.parts e
    have sl := sm k.toNat V hV
    rw [show ((k.toNat : Nat) : Int) = k by omega] at sl
    have bnd := U.bnd
    obtain ⟨t4, f83⟩ := U.lay.2.2.2.2.1
    obtain ⟨t2, f81⟩ := U.v2
    refine Wp.vc 400 [24, 32] rfl ?_
    rw [f85]
    refine ⟨isF tm rfl, fun w => absurd w n0, fun _ => ⟨fun w => absurd w (by omega), fun _ => ⟨isF tm rfl, fun _ => ?_, fun w => absurd c.2 w⟩⟩⟩
    have key : ∀ (j : Int) (G : XH), j ≤ 16 → (0 ≤ j ∧ XFr (fun z f => z = m ∧ f = 84) (fun z => z = m + 2) g G ∧ xsz G = xsz g ∧ xsl G = xsl g ∧ ∀ i : Int, 0 ≤ i → i < j → xar G (m + 2) i = xar g (m + 4) (16 * k + i)) → Wp (d + 2) 251 32 [some (.inr (.inr m)), some (.inl k), some (.inl j)] [] G (MAn B m h (.inl (1, sBack S V []).1) (1, sBack S V []).2) := by
      refine loopUp (G := fun j G => Wp (d + 2) 251 32 [some (.inr (.inr m)), some (.inl k), some (.inl j)] [] G (MAn B m h (.inl (1, sBack S V []).1) (1, sBack S V []).2)) 16 ?_ ?_
      · rintro j G ⟨j0, p, z1, z2, i1⟩ hj ih
        have tg := (p.2.2.1 m (by omega)).trans tm
        have t4g := (p.2.2.1 (m + 4) (by omega)).trans t4
        have t2g := (p.2.2.1 (m + 2) (by omega)).trans t2
        have flg : ∀ f, f ≠ 84 → xfl G m f = xfl g m f := fun f hf => p.2.2.2.1 m f (by omega) (fun w => hf w.2)
        refine Wp.vc 400 [32] rfl ?_
        rw [(flg 83 (by decide)).trans f83, (flg 81 (by decide)).trans f81, p.2.2.2.2 (m + 4) _ (by omega) (fun w => by omega)]
        refine ⟨fun w => absurd w (by omega), fun _ => ⟨isF tg rfl, isF tg rfl, by omega, by omega, isA t4g (by omega) (by omega), isB t2g j0 (by omega), by omega, ih _ ⟨by omega, p.puta (Or.inr rfl), z1, z2, fun i i0 i1' => ?_⟩⟩⟩
        rw [xar_puta]
        by_cases q : i = j
        · rw [if_pos ⟨rfl, q⟩, q]
        · rw [if_neg (fun w => q w.2)]
          exact i1 i i0 (by omega)
      · rintro G ⟨j0, p, z1, z2, i1⟩
        have tg := (p.2.2.1 m (by omega)).trans tm
        have UU := U.back (Us := []) (V := V) (g := xputf G m 84 0) e (p.putf (Or.inr ⟨rfl, rfl⟩)) z1 z2 ⟨fun i i0 i1' => (i1 i i0 (by omega)).trans (sl.1 i i0 i1'), fun q q0 q1 => ⟨(i1 _ (by omega) (by omega)).trans (sl.2 q q0 q1).1, (i1 _ (by omega) (by omega)).trans (sl.2 q q0 q1).2⟩⟩ (by rw [xfl_putf, if_pos ⟨rfl, rfl⟩]; rfl) (fun k W hk => by simp at hk) VV
        refine Wp.vc 400 [38] rfl ?_
        exact ⟨fun _ => ⟨isW tg rfl, UU.granted rfl (fun _ => rfl) rfl⟩, fun w => absurd (Int.le_refl _) w⟩
    exact key 0 g (by decide) ⟨Int.le_refl _, XFr.refl g, rfl, rfl, fun i i0 i1 => by omega⟩
  · have bad := bad (opBack_no c)
    refine Wp.vc 400 [24, 30] rfl ?_
    rw [f85]
    refine ⟨isF tm rfl, fun _ => bad, fun _ => ⟨fun _ => bad, fun c1 => ⟨isF tm rfl, fun c2 => absurd ⟨by omega, c2⟩ c, fun _ => bad⟩⟩⟩
theorem m_opMark {d : Nat} {h : XH} {B m n : Int} {S : XSt} (R : Rm h B m S) (O : SOK n S) : WpM (d + 1) 250 [.inr (.inr m)] h (MAn B m h (.inl (opMark S).1) (opMark S).2) := by
  refine WpM.of rfl (MU.start R O rfl (fun g U => ?_))
  have tm := U.tm
  cases e : sT S with
  | none =>
    rw [show opMark S = _ from onT_no e]
    refine Wp.vc 400 [18] rfl ?_
    rw [U.noT e]
    (repeat (refine And.intro (by first | exact trivial | exact isF (by assumption) rfl | exact isW (by assumption) rfl | exact isA (by assumption) (by omega) (by omega) | exact isB (by assumption) (by omega) (by omega) | exact isR (by assumption) (by decide) (by omega) (by omega) | (refine ⟨by omega, by omega⟩)) ?_))
    refine ⟨fun w => absurd rfl w, fun _ => ?_⟩
    exact U.ref (k := 1) rfl (fun _ => rfl) rfl
  | some T =>
    rw [show opMark S = _ from onT_yes e]
    obtain ⟨ne, -⟩ := U.hasT e
    have f85 : xfl g m 85 = ((sM S).length : Int) := U.1.2.2.2.2.1.1
    have l3 : (sM S).length ≤ 3 := O.2.1.2
    by_cases c : (sM S).length = 3
    · rw [if_pos c]
      refine Wp.vc 400 [32] rfl ?_
      rw [f85, c]
      refine ⟨isF tm rfl, fun _ => ⟨isF tm rfl, fun w => absurd rfl w, fun _ => ?_⟩, fun w => absurd ne w⟩
      exact U.ref (k := 3) rfl (fun _ => rfl) rfl
    · rw [if_neg c]
      have hp := (U.ok e).1.2.2.2.1
      obtain ⟨sv, su, sm⟩ := U.1.parts e
      have bnd := U.bnd
      obtain ⟨t4, f83⟩ := U.lay.2.2.2.2.1
      obtain ⟨t2, f81⟩ := U.v2
      obtain ⟨len, hlen⟩ : ∃ len : Nat, len = (sM S).length := ⟨_, rfl⟩
      rw [← hlen] at f85 l3 c
      refine Wp.vc 400 [34] rfl ?_
      rw [f85]
      refine ⟨isF tm rfl, fun _ => ⟨isF tm rfl, fun _ => ?_, fun w => absurd (Decidable.of_not_not w) (by omega)⟩, fun w => absurd ne w⟩
      have key : ∀ (j : Int) (G : XH), j ≤ 16 → (0 ≤ j ∧ XFr (fun _ _ => False) (fun z => z = m + 4) g G ∧ xsz G = xsz g ∧ xsl G = xsl g ∧ (∀ i : Int, 0 ≤ i → i < j → xar G (m + 4) (16 * (len : Int) + i) = xar g (m + 2) i) ∧ ∀ i : Int, i < 16 * (len : Int) → xar G (m + 4) i = xar g (m + 4) i) → Wp (d + 1) 250 34 [some (.inr (.inr m)), some (.inl j)] [] G (MAn B m h (.inl (((sM S).length : Int), sPutM (sSet S 0 (-1)) (sM S ++ [sV S])).1) (((sM S).length : Int), sPutM (sSet S 0 (-1)) (sM S ++ [sV S])).2) := by
        refine loopUp (G := fun j G => Wp (d + 1) 250 34 [some (.inr (.inr m)), some (.inl j)] [] G (MAn B m h (.inl (((sM S).length : Int), sPutM (sSet S 0 (-1)) (sM S ++ [sV S])).1) (((sM S).length : Int), sPutM (sSet S 0 (-1)) (sM S ++ [sV S])).2)) 16 ?_ ?_
        · rintro j G ⟨j0, p, z1, z2, i1, i2⟩ hj ih
          have tg := (p.2.2.1 m (by omega)).trans tm
          have t4g := (p.2.2.1 (m + 4) (by omega)).trans t4
          have t2g := (p.2.2.1 (m + 2) (by omega)).trans t2
          have flg : ∀ f, xfl G m f = xfl g m f := fun f => p.2.2.2.1 m f (by omega) (fun w => w)
          refine Wp.vc 400 [34] rfl ?_
          rw [(flg 83).trans f83, (flg 81).trans f81, (flg 85).trans f85, p.2.2.2.2 (m + 2) _ (by omega) (fun w => by omega)]
          refine ⟨fun w => absurd w (by omega), fun _ => ⟨isF tg rfl, isF tg rfl, by omega, by omega, isF tg rfl, isA t2g j0 (by omega), isB t4g (by omega) (by omega), by omega, ih _ ⟨by omega, p.puta (Or.inr rfl), z1, z2, fun i i0 i1' => ?_, fun i i0 => ?_⟩⟩⟩
          · rw [xar_puta]
            by_cases q : i = j
            · rw [if_pos ⟨rfl, by omega⟩, q]
            · rw [if_neg (fun w => q (by omega))]
              exact i1 i i0 (by omega)
          · rw [xar_puta, if_neg (fun w => by omega)]
            exact i2 i i0
        · rintro G ⟨j0, p, z1, z2, i1, i2⟩
          have tg := (p.2.2.1 m (by omega)).trans tm
          have flg : ∀ f, xfl G m f = xfl g m f := fun f => p.2.2.2.1 m f (by omega) (fun w => w)
          have p2 : XFr (fun z f => z = m ∧ f = 85) (fun z => z = m + 4) g (xputf G m 85 ((len : Int) + 1)) := (p.mono (fun _ _ _ w => w.elim) (fun _ _ w => w)).putf (Or.inr ⟨rfl, rfl⟩)
          have f85' : xfl (xputf G m 85 ((len : Int) + 1)) m 85 = (len : Int) + 1 := by rw [xfl_putf, if_pos ⟨rfl, rfl⟩]
          have U2 : MU B m n h (xputf G m 85 ((len : Int) + 1)) (sPutM S (sM S ++ [sV S])) := by
            obtain ⟨R, O, q, w1, w2⟩ := U
            have p2' : XFr (MW m) (fun z => m ≤ z ∧ z < m + 15) g (xputf G m 85 ((len : Int) + 1)) := p2.mono (fun z f _ w => ⟨w.1, by rw [w.2]; rfl⟩) (fun z _ w => by omega)
            have fl : ∀ f, f ≠ 85 → xfl (xputf G m 85 ((len : Int) + 1)) m f = xfl g m f := fun f hf => p2.2.2.2.1 m f (by omega) (fun w => hf w.2)
            have ar : ∀ c i : Int, c < 15 → c ≠ 4 → xar (xputf G m 85 ((len : Int) + 1)) (m + c) i = xar g (m + c) i := fun c i h1 h2 => p2.2.2.2.2 _ i (by omega) (fun w => by omega)
            have i1' : ∀ i : Int, 0 ≤ i → i < 16 → xar (xputf G m 85 ((len : Int) + 1)) (m + 4) (16 * (len : Int) + i) = xar g (m + 2) i := i1
            have i2' : ∀ i : Int, i < 16 * (len : Int) → xar (xputf G m 85 ((len : Int) + 1)) (m + 4) i = xar g (m + 4) i := i2
            refine ⟨R.re p2' rfl (fl 69 (by decide)) ⟨(fl 72 (by decide)).trans R.2.2.1.1, fun j hj => (ar 1 _ (by decide) (by decide)).trans (R.2.2.1.2 j hj)⟩ ⟨(fl 67 (by decide)).trans R.2.2.2.1.1, (fl 68 (by decide)).trans R.2.2.2.1.2.1, (fl 78 (by decide)).trans R.2.2.2.1.2.2⟩ ⟨?_, (fl 84 (by decide)).trans R.2.2.2.2.1.2⟩ (fun T' e' => ?_), O.mark e (by omega), q.trans p2' (fun _ _ _ w => w) (fun z _ w => by omega), z1.trans w1, z2.trans w2⟩
            · show xfl (xputf G m 85 ((len : Int) + 1)) m 85 = ((sM S ++ [sV S]).length : Int)
              rw [List.length_append, ← hlen, f85']
              rfl
            · rw [e] at e'
              cases e'
              refine ⟨⟨fun i i0 i1 => (ar 2 _ (by decide) (by decide)).trans (sv.1 i i0 i1), fun q q0 q1 => ⟨(ar 2 _ (by decide) (by decide)).trans (sv.2 q q0 q1).1, (ar 2 _ (by decide) (by decide)).trans (sv.2 q q0 q1).2⟩⟩, fun k V hk => ?_, fun k V hk => ?_⟩
              · have q := su k V hk
                exact ⟨fun i i0 i1 => (ar 3 _ (by decide) (by decide)).trans (q.1 i i0 i1), fun r r0 r1 => ⟨(ar 3 _ (by decide) (by decide)).trans (q.2 r r0 r1).1, (ar 3 _ (by decide) (by decide)).trans (q.2 r r0 r1).2⟩⟩
              · have hk : (sM S ++ [sV S])[k]? = some V := hk
                have hk1 : k < len + 1 := by
                  have := (List.getElem?_eq_some_iff.mp hk).1
                  rw [List.length_append, ← hlen] at this
                  exact this
                by_cases ek : k = len
                · rw [ek, hlen, List.getElem?_append_right (Nat.le_refl _), Nat.sub_self] at hk
                  cases hk
                  rw [ek]
                  refine ⟨fun i i0 i1 => ?_, fun r r0 r1 => ⟨?_, ?_⟩⟩
                  · rw [i1' i i0 (by omega)]
                    exact sv.1 i i0 i1
                  · rw [i1' _ (by omega) (by omega)]
                    exact (sv.2 r r0 r1).1
                  · rw [i1' _ (by omega) (by omega)]
                    exact (sv.2 r r0 r1).2
                · rw [List.getElem?_append_left (by omega)] at hk
                  have q := sm k V hk
                  refine ⟨fun i i0 i1 => ?_, fun r r0 r1 => ⟨?_, ?_⟩⟩
                  · rw [i2' _ (by omega)]
                    exact q.1 i i0 i1
                  · rw [i2' _ (by omega)]
                    exact (q.2 r r0 r1).1
                  · rw [i2' _ (by omega)]
                    exact (q.2 r r0 r1).2
          have tm2 := U2.tm
          refine Wp.vc 400 [40] rfl ?_
          rw [(flg 85).trans f85, f85', show (len : Int) + 1 - 1 = ((sM S).length : Int) by omega]
          refine ⟨fun _ => ⟨isF tg rfl, by omega, isW tg rfl, isF tg rfl, by omega, ?_⟩, fun w => absurd (Int.le_refl _) w⟩
          exact U2.good rfl (fun _ => rfl) rfl
      exact key 0 g (by decide) ⟨Int.le_refl _, XFr.refl g, rfl, rfl, fun i i0 i1 => by omega, fun i _ => rfl⟩
