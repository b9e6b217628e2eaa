/-! WALKS, 39: acts, the model -/
set_option maxRecDepth 100000
set_option maxHeartbeats 4000000
theorem Rm.re {h g : XH} {B m : Int} {S S' : XSt} (R : Rm h B m S) (p : XFr (MW m) (fun z => m ≤ z ∧ z < m + 15) h g) (hT : sT S' = sT S) (f69 : xfl g m 69 = xfl h m 69) (tp : xfl g m 72 = ((sTp S').length : Int) ∧ ∀ j : Nat, j < (sTp S').length → xar g (m + 1) (j : Int) = (sTp S').getD j 0) (tr : xfl g m 67 = sTr S' ∧ xfl g m 68 = sWh S' ∧ xfl g m 78 = sFa S') (cn : xfl g m 85 = ((sM S').length : Int) ∧ xfl g m 84 = ((sU S').length : Int)) (sn : ∀ T, sT S = some T → ((∀ i : Int, 0 ≤ i → i < 8 → xar g (m + 2) i = sV S' i) ∧ (∀ q : Int, 0 ≤ q → q < tpm T → xar g (m + 2) (8 + q) = sV S' (8 + q) ∧ xar g (m + 2) (12 + q) = sV S' (12 + q))) ∧
    (∀ (k : Nat) (V : Int → Int), (sU S')[k]? = some V → (∀ i : Int, 0 ≤ i → i < 8 → xar g (m + 3) (16 * (k : Int) + i) = V i) ∧ ∀ q : Int, 0 ≤ q → q < tpm T → xar g (m + 3) (16 * (k : Int) + (8 + q)) = V (8 + q) ∧ xar g (m + 3) (16 * (k : Int) + (12 + q)) = V (12 + q)) ∧
    (∀ (k : Nat) (V : Int → Int), (sM S')[k]? = some V → (∀ i : Int, 0 ≤ i → i < 8 → xar g (m + 4) (16 * (k : Int) + i) = V i) ∧ ∀ q : Int, 0 ≤ q → q < tpm T → xar g (m + 4) (16 * (k : Int) + (8 + q)) = V (8 + q) ∧ xar g (m + 4) (16 * (k : Int) + (12 + q)) = V (12 + q))) : Rm g B m S' := by
  obtain ⟨⟨b0, b1, b2⟩, L, -, -, -, RT⟩ := R
  have LL : ModelL g m := L.keep p (by omega) (fun f hf w => by rw [w.2] at hf; cases hf)
  refine ⟨⟨b0, b1, by have := p.2.1; omega⟩, LL, tp, tr, cn, ?_⟩
  clear L LL
  unfold RmT at RT ⊢
  rw [hT]
  cases e : sT S with
  | none =>
    rw [e] at RT
    exact f69.trans RT
  | some T =>
    rw [e] at RT
    obtain ⟨TX, -, -, -, -, fo⟩ := RT
    obtain ⟨⟨s1, s2⟩, s3, s4⟩ := sn T e
    refine ⟨?_, s1, s2, s3, s4, ?_⟩
    · rw [f69]
      exact TX.keep (Above.of p (fun z f hz _ _ w => by have := w.1; omega) (fun z hz w => by omega))
    · rw [show xar g (m + 15) = xar h (m + 15) from funext fun i => p.2.2.2.2 _ i (by omega) (fun w => by omega)]
      exact fo
theorem Rm.parts {h : XH} {B m : Int} {S : XSt} {T : XTw} (R : Rm h B m S) (e : sT S = some T) : ((∀ i : Int, 0 ≤ i → i < 8 → xar h (m + 2) i = sV S i) ∧ (∀ q : Int, 0 ≤ q → q < tpm T → xar h (m + 2) (8 + q) = sV S (8 + q) ∧ xar h (m + 2) (12 + q) = sV S (12 + q))) ∧
    (∀ (k : Nat) (V : Int → Int), (sU S)[k]? = some V → (∀ i : Int, 0 ≤ i → i < 8 → xar h (m + 3) (16 * (k : Int) + i) = V i) ∧ ∀ q : Int, 0 ≤ q → q < tpm T → xar h (m + 3) (16 * (k : Int) + (8 + q)) = V (8 + q) ∧ xar h (m + 3) (16 * (k : Int) + (12 + q)) = V (12 + q)) ∧
    (∀ (k : Nat) (V : Int → Int), (sM S)[k]? = some V → (∀ i : Int, 0 ≤ i → i < 8 → xar h (m + 4) (16 * (k : Int) + i) = V i) ∧ ∀ q : Int, 0 ≤ q → q < tpm T → xar h (m + 4) (16 * (k : Int) + (8 + q)) = V (8 + q) ∧ xar h (m + 4) (16 * (k : Int) + (12 + q)) = V (12 + q)) := by
  obtain ⟨-, -, -, -, -, RT⟩ := R
  unfold RmT at RT
  rw [e] at RT
  exact ⟨⟨RT.2.1, RT.2.2.1⟩, RT.2.2.2.1, RT.2.2.2.2.1⟩
theorem MU.denied {d M pc np np' : Nat} {ls : XL} {st : XS} {B m n k : Int} {h0 h : XH} {S : XSt} (U : MU B m n h0 h S) (e : xstK M pc 0 st = some (np, some 9, 243, [.inr (.inr m), .inl k], [])) (e2 : ∀ h2, xrun 3 M np ls [.inl 0] h2 True = some (True, np', ls, [.inl 0], h2)) (r : xstR M np' [.inl 0] = some (((0 : Int) ≤ 0 ∧ (0 : Int) ≤ 1), some (.inl 0))) : Wp (d + 2) M pc ls st h (MAn B m h0 (.inl (sNoB S k).1) (sNoB S k).2) := by
  refine Wp.callR e (Nat.zero_le _) ⟨true, U.tm⟩ (Q1 := fun v h' => v = some (.inl 0) ∧ MU B m n h0 h' (sSet S k (-1))) ?_ (fun v h1 q => by
    obtain ⟨rfl, q1⟩ := q
    exact Wp.run 3 (e2 h1) trivial (Wp.rt r ⟨by decide, by decide⟩ q1.ret))
  refine WpM.of rfl (Wp.vc 400 [] rfl ?_)
  refine U.refK rfl (Nat.zero_le _) (fun h1 U1 => ?_)
  refine Wp.vc 400 [] rfl ?_
  exact ⟨⟨by decide, by decide⟩, _, rfl, rfl, U1⟩
theorem MU.granted {d M pc np np' : Nat} {ls : XL} {st : XS} {B m n : Int} {h0 h : XH} {S : XSt} (U : MU B m n h0 h S) (e : xstK M pc 0 st = some (np, some 9, 245, [.inr (.inr m)], [])) (e2 : ∀ h2, xrun 3 M np ls [.inl 1] h2 True = some (True, np', ls, [.inl 1], h2)) (r : xstR M np' [.inl 1] = some (((0 : Int) ≤ 1 ∧ (1 : Int) ≤ 1), some (.inl 1))) : Wp (d + 2) M pc ls st h (MAn B m h0 (.inl 1) (sSet S 0 (-1))) := by
  refine Wp.callR e (Nat.zero_le _) ⟨true, U.tm⟩ (Q1 := fun v h' => v = some (.inl 1) ∧ MU B m n h0 h' (sSet S 0 (-1))) ?_ (fun v h1 q => by
    obtain ⟨rfl, q1⟩ := q
    exact Wp.run 3 (e2 h1) trivial (Wp.rt r ⟨by decide, by decide⟩ q1.ret))
  refine WpM.of rfl (Wp.vc 400 [] rfl ?_)
  refine U.goodK rfl (Nat.zero_le _) (fun h1 U1 => ?_)
  refine Wp.vc 400 [] rfl ?_
  exact ⟨⟨by decide, by decide⟩, _, rfl, rfl, U1⟩
/-- the model's stack is put by -/
theorem SOK.putU {n : Int} {S : XSt} {T : XTw} {Us : List (Int → Int)} (O : SOK n S) (e : sT S = some T) (hU : ∀ W ∈ Us, VOK T n W) (hl : Us.length ≤ 16) : SOK n (sPutU S Us) := by
  obtain ⟨o1, o2, o3, o4, o5, o6⟩ := O
  refine ⟨fun T' e' => ?_, ⟨hl, o2.2⟩, o3, o4, fun e' => ?_, o6⟩
  · have e' : sT S = some T' := e'
    rw [e] at e'
    cases e'
    exact ⟨(o1 T e).1, (o1 T e).2.1, hU, (o1 T e).2.2.2⟩
  · have e' : sT S = none := e'
    rw [e] at e'
    cases e'
/-- remembers(), its first half: the oldest goes where there is no more room -/
theorem m_rot {d : Nat} {h : XH} {B m n : Int} {h0 : XH} {S : XSt} {T : XTw} {Q : XO → XH → Prop} (U : MU B m n h0 h S) (e : sT S = some T) (k : ∀ h1 l1, MU B m n h0 h1 (sPutU S (cutU (sU S))) → XFr (fun z f => z = m ∧ f = 84) (fun z => z = m + 3) h h1 → Wp d 244 49 [some (.inr (.inr m)), l1] [] h1 Q) : Wp d 244 0 [some (.inr (.inr m)), none] [] h Q := by
  have tm := U.tm
  have f84 := U.1.2.2.2.2.1.2
  obtain ⟨sv, su, sm⟩ := U.1.parts e
  have bnd := U.bnd
  have hm := U.2.1.2.1
  have hp := (U.ok e).1.2.2.2.1
  obtain ⟨t3, f82⟩ := U.lay.2.2.2.1
  refine Wp.vc 400 [49, 11] rfl ?_
  rw [f84]
  refine ⟨isF tm rfl, fun c => ?_, fun c => ?_⟩
  · have c : ¬ ((sU S).length : Int) = 16 := c
    refine k h _ ?_ (XFr.refl h)
    rw [show cutU (sU S) = sU S from if_neg (by omega)]
    exact U
  · have c : ((sU S).length : Int) = 16 := Decidable.of_not_not c
    have key : ∀ (j : Int) (g : XH), j ≤ 240 → (0 ≤ j ∧ XFr (fun _ _ => False) (fun z => z = m + 3) h g ∧ xsz g = xsz h ∧ xsl g = xsl h ∧ (∀ i : Int, 0 ≤ i → i < j → xar g (m + 3) i = xar h (m + 3) (i + 16)) ∧ ∀ i : Int, j ≤ i → xar g (m + 3) i = xar h (m + 3) i) → Wp d 244 11 [some (.inr (.inr m)), some (.inl j)] [] g Q := by
      refine loopUp (G := fun j g => Wp d 244 11 [some (.inr (.inr m)), some (.inl j)] [] g Q) 240 ?_ ?_
      · rintro j g ⟨j0, p, z1, z2, i1, i2⟩ hj ih
        have tg := (p.2.2.1 m (by omega)).trans tm
        have t3g := (p.2.2.1 (m + 3) (by omega)).trans t3
        have g82 : xfl g m 82 = m + 3 := (p.2.2.2.1 m 82 (by omega) (fun w => w)).trans f82
        refine Wp.vc 400 [11, 39] rfl ?_
        rw [g82, i2 (j + 16) (by omega)]
        refine ⟨fun w => absurd w (by omega), fun _ => ⟨isF tg rfl, isF tg rfl, by omega, isA t3g (by omega) (by omega), isB t3g j0 (by omega), by omega, ih _ ⟨by omega, p.puta (Or.inr rfl), z1, z2, fun i i0 i1' => ?_, fun i i0 => ?_⟩⟩⟩
        · rw [xar_puta]
          by_cases q : i = j
          · rw [if_pos ⟨rfl, q⟩, q]
          · rw [if_neg (fun w => q w.2)]
            exact i1 i i0 (by omega)
        · rw [xar_puta, if_neg (fun w => by omega)]
          exact i2 i (by omega)
      · rintro g ⟨j0, p, z1, z2, i1, i2⟩
        have tg := (p.2.2.1 m (by omega)).trans tm
        have flg : ∀ f, xfl g m f = xfl h m f := fun f => p.2.2.2.1 m f (by omega) (fun w => w)
        refine Wp.vc 400 [18, 49] rfl ?_
        rw [(flg 84).trans (f84.trans c)]
        have p2 : XFr (fun z f => z = m ∧ f = 84) (fun z => z = m + 3) h (xputf g m 84 (16 - 1)) := (p.mono (fun _ _ _ w => w.elim) (fun _ _ w => w)).putf (Or.inr ⟨rfl, rfl⟩)
        refine ⟨fun _ => ⟨isF tg rfl, by omega, isW tg rfl, k _ _ ?_ p2⟩, fun w => absurd (Int.le_refl _) w⟩
        obtain ⟨R, O, q, w1, w2⟩ := U
        have p2' : XFr (MW m) (fun z => m ≤ z ∧ z < m + 15) h (xputf g m 84 (16 - 1)) := p2.mono (fun z f _ w => ⟨w.1, by rw [w.2]; rfl⟩) (fun z _ w => by omega)
        have fl : ∀ f, f ≠ 84 → xfl (xputf g m 84 (16 - 1)) m f = xfl h m f := fun f hf => p2.2.2.2.1 m f (by omega) (fun w => hf w.2)
        have ar : ∀ c i : Int, c < 15 → c ≠ 3 → xar (xputf g m 84 (16 - 1)) (m + c) i = xar h (m + c) i := fun c i h1 h2 => p2.2.2.2.2 _ i (by omega) (fun w => by omega)
        have e15 : cutU (sU S) = (sU S).drop 1 := if_pos (by omega)
        have l15 : ((sU S).drop 1).length = 15 := by rw [List.length_drop]; omega
        have i1' : ∀ i : Int, 0 ≤ i → i < 240 → xar (xputf g m 84 (16 - 1)) (m + 3) i = xar h (m + 3) (i + 16) := i1
        refine ⟨R.re p2' rfl (fl 69 (by decide)) ⟨(fl 72 (by decide)).trans R.2.2.1.1, fun j hj => (ar 1 _ (by decide) (by decide)).trans (R.2.2.1.2 j hj)⟩ ⟨(fl 67 (by decide)).trans R.2.2.2.1.1, (fl 68 (by decide)).trans R.2.2.2.1.2.1, (fl 78 (by decide)).trans R.2.2.2.1.2.2⟩ ⟨(fl 85 (by decide)).trans R.2.2.2.2.1.1, ?_⟩ (fun T' e' => ?_), ?_, q.trans p2' (fun _ _ _ w => w) (fun z _ w => by omega), z1.trans w1, z2.trans w2⟩
        · show xfl (xputf g m 84 (16 - 1)) m 84 = ((cutU (sU S)).length : Int)
          rw [e15, l15, xfl_putf, if_pos ⟨rfl, rfl⟩]
          rfl
        · rw [e] at e'
          cases e'
          refine ⟨⟨fun i i0 i1 => (ar 2 _ (by decide) (by decide)).trans (sv.1 i i0 i1), fun q q0 q1 => ⟨(ar 2 _ (by decide) (by decide)).trans (sv.2 q q0 q1).1, (ar 2 _ (by decide) (by decide)).trans (sv.2 q q0 q1).2⟩⟩, fun k V hk => ?_, fun k V hk => ?_⟩
          · have hk : (cutU (sU S))[k]? = some V := hk
            rw [e15, List.getElem?_drop] at hk
            have q := su (1 + k) V hk
            have hk1 := (List.getElem?_eq_some_iff.mp hk).1
            have ec : (((1 + k : Nat)) : Int) = (k : Int) + 1 := by omega
            rw [ec] at q
            refine ⟨fun i i0 i1 => ?_, fun r r0 r1 => ⟨?_, ?_⟩⟩
            · rw [i1' _ (by omega) (by omega), show 16 * (k : Int) + i + 16 = 16 * ((k : Int) + 1) + i by omega]
              exact q.1 i i0 i1
            · rw [i1' _ (by omega) (by omega), show 16 * (k : Int) + (8 + r) + 16 = 16 * ((k : Int) + 1) + (8 + r) by omega]
              exact (q.2 r r0 r1).1
            · rw [i1' _ (by omega) (by omega), show 16 * (k : Int) + (12 + r) + 16 = 16 * ((k : Int) + 1) + (12 + r) by omega]
              exact (q.2 r r0 r1).2
          · have q := sm k V hk
            exact ⟨fun i i0 i1 => (ar 4 _ (by decide) (by decide)).trans (q.1 i i0 i1), fun r r0 r1 => ⟨(ar 4 _ (by decide) (by decide)).trans (q.2 r r0 r1).1, (ar 4 _ (by decide) (by decide)).trans (q.2 r r0 r1).2⟩⟩
        · refine SOK.putU O e (fun W hW => ?_) (by rw [e15, l15]; decide)
          rw [e15] at hW
          exact (O.1 T e).2.2.1 W (List.mem_of_mem_drop hW)
    exact key 0 h (by decide) ⟨Int.le_refl _, XFr.refl h, rfl, rfl, fun i i0 i1 => by omega, fun i _ => rfl⟩
theorem MU.remK {d M pc np : Nat} {ls : XL} {st rest : XS} {B m n : Int} {h0 h : XH} {S : XSt} {T : XTw} {Q : XO → XH → Prop} (U : MU B m n h0 h S) (eT : sT S = some T) (e : xstK M pc 0 st = some (np, some 9, 244, [.inr (.inr m)], rest)) (hw : xwords rest ≤ 8) (k : ∀ h1, MU B m n h0 h1 (sPutU S (cutU (sU S) ++ [sV S])) → XFr (fun z f => z = m ∧ f = 84) (fun z => z = m + 3) h h1 → Wp (d + 1) M np ls rest h1 Q) : Wp (d + 1) M pc ls st h Q := by
  refine Wp.callR e hw ⟨true, U.tm⟩ (Q1 := fun v h' => v = none ∧ MU B m n h0 h' (sPutU S (cutU (sU S) ++ [sV S])) ∧ XFr (fun z f => z = m ∧ f = 84) (fun z => z = m + 3) h h') ?_ (fun v h1 q => by
    obtain ⟨rfl, q1, q2⟩ := q
    exact k h1 q1 q2)
  refine WpM.of rfl (m_rot U eT (fun h1 l1 U1 p1 => ?_))
  have lu : (cutU (sU S)).length ≤ 15 := cutU_len U.2.1.2.1.1
  have VO := (U.ok eT).2
  clear U k
  have tm := U1.tm
  have f84 : xfl h1 m 84 = ((cutU (sU S)).length : Int) := U1.1.2.2.2.2.1.2
  obtain ⟨sv, su, sm⟩ := U1.1.parts eT
  have bnd := U1.bnd
  have hp := (U1.ok eT).1.2.2.2.1
  obtain ⟨t3, f82⟩ := U1.lay.2.2.2.1
  obtain ⟨t2, f81⟩ := U1.v2
  obtain ⟨len, hlen⟩ : ∃ len : Nat, len = (cutU (sU S)).length := ⟨_, rfl⟩
  rw [← hlen] at f84 lu
  refine Wp.vc 400 [51] rfl ?_
  have key : ∀ (j : Int) (g : XH), j ≤ 16 → (0 ≤ j ∧ XFr (fun _ _ => False) (fun z => z = m + 3) h1 g ∧ xsz g = xsz h1 ∧ xsl g = xsl h1 ∧ (∀ i : Int, 0 ≤ i → i < j → xar g (m + 3) (16 * (len : Int) + i) = xar h1 (m + 2) i) ∧ ∀ i : Int, i < 16 * (len : Int) → xar g (m + 3) i = xar h1 (m + 3) i) → Wp d 244 51 [some (.inr (.inr m)), some (.inl j)] [] g (fun o h' => ∃ v, o = .inl v ∧ v = none ∧ MU B m n h0 h' (sPutU S (cutU (sU S) ++ [sV S])) ∧ XFr (fun z f => z = m ∧ f = 84) (fun z => z = m + 3) h h') := by
    refine loopUp (G := fun j g => Wp d 244 51 [some (.inr (.inr m)), some (.inl j)] [] g (fun o h' => ∃ v, o = .inl v ∧ v = none ∧ MU B m n h0 h' (sPutU S (cutU (sU S) ++ [sV S])) ∧ XFr (fun z f => z = m ∧ f = 84) (fun z => z = m + 3) h h')) 16 ?_ ?_
    · rintro j g ⟨j0, p, z1, z2, i1, i2⟩ hj ih
      have tg := (p.2.2.1 m (by omega)).trans tm
      have t3g := (p.2.2.1 (m + 3) (by omega)).trans t3
      have t2g := (p.2.2.1 (m + 2) (by omega)).trans t2
      have flg : ∀ f, xfl g m f = xfl h1 m f := fun f => p.2.2.2.1 m f (by omega) (fun w => w)
      refine Wp.vc 400 [51] rfl ?_
      rw [(flg 82).trans f82, (flg 81).trans f81, (flg 84).trans f84, p.2.2.2.2 (m + 2) j (by omega) (fun w => by omega)]
      refine ⟨fun w => absurd w (by omega), fun _ => ⟨isF tg rfl, isF tg rfl, by omega, by omega, isF tg rfl, isA t2g j0 (by omega), isB t3g (by omega) (by omega), by omega, ih _ ⟨by omega, p.puta (Or.inr rfl), z1, z2, fun i i0 i1' => ?_, fun i i0 => ?_⟩⟩⟩
      · rw [xar_puta]
        by_cases q : i = j
        · rw [if_pos ⟨rfl, by omega⟩, q]
        · rw [if_neg (fun w => q (by omega))]
          exact i1 i i0 (by omega)
      · rw [xar_puta, if_neg (fun w => by omega)]
        exact i2 i (by omega)
    · rintro g ⟨j0, p, z1, z2, i1, i2⟩
      have tg := (p.2.2.1 m (by omega)).trans tm
      have flg : ∀ f, xfl g m f = xfl h1 m f := fun f => p.2.2.2.1 m f (by omega) (fun w => w)
      have p2 : XFr (fun z f => z = m ∧ f = 84) (fun z => z = m + 3) h1 (xputf g m 84 ((len : Int) + 1)) := (p.mono (fun _ _ _ w => w.elim) (fun _ _ w => w)).putf (Or.inr ⟨rfl, rfl⟩)
      refine Wp.vc 400 [57] rfl ?_
      rw [(flg 84).trans f84]
      refine ⟨fun _ => ⟨isF tg rfl, by omega, isW tg rfl, trivial, none, rfl, rfl, ?_, p1.trans p2 (fun _ _ _ w => w) (fun _ _ w => w)⟩, fun w => absurd (Int.le_refl _) w⟩
      obtain ⟨R, O, q, w1, w2⟩ := U1
      have p2' : XFr (MW m) (fun z => m ≤ z ∧ z < m + 15) h1 (xputf g m 84 ((len : Int) + 1)) := p2.mono (fun z f _ w => ⟨w.1, by rw [w.2]; rfl⟩) (fun z _ w => by omega)
      have fl : ∀ f, f ≠ 84 → xfl (xputf g m 84 ((len : Int) + 1)) m f = xfl h1 m f := fun f hf => p2.2.2.2.1 m f (by omega) (fun w => hf w.2)
      have ar : ∀ c i : Int, c < 15 → c ≠ 3 → xar (xputf g m 84 ((len : Int) + 1)) (m + c) i = xar h1 (m + c) i := fun c i h1 h2 => p2.2.2.2.2 _ i (by omega) (fun w => by omega)
      have i1' : ∀ i : Int, 0 ≤ i → i < 16 → xar (xputf g m 84 ((len : Int) + 1)) (m + 3) (16 * (len : Int) + i) = xar h1 (m + 2) i := i1
      have i2' : ∀ i : Int, i < 16 * (len : Int) → xar (xputf g m 84 ((len : Int) + 1)) (m + 3) i = xar h1 (m + 3) i := i2
      refine ⟨R.re p2' rfl (fl 69 (by decide)) ⟨(fl 72 (by decide)).trans R.2.2.1.1, fun j hj => (ar 1 _ (by decide) (by decide)).trans (R.2.2.1.2 j hj)⟩ ⟨(fl 67 (by decide)).trans R.2.2.2.1.1, (fl 68 (by decide)).trans R.2.2.2.1.2.1, (fl 78 (by decide)).trans R.2.2.2.1.2.2⟩ ⟨(fl 85 (by decide)).trans R.2.2.2.2.1.1, ?_⟩ (fun T' e' => ?_), ?_, q.trans p2' (fun _ _ _ w => w) (fun z _ w => by omega), z1.trans w1, z2.trans w2⟩
      · show xfl (xputf g m 84 ((len : Int) + 1)) m 84 = ((cutU (sU S) ++ [sV S]).length : Int)
        rw [List.length_append, ← hlen, xfl_putf, if_pos ⟨rfl, rfl⟩]
        rfl
      · have e' : sT S = some T' := e'
        rw [eT] at e'
        cases e'
        refine ⟨⟨fun i i0 i1 => (ar 2 _ (by decide) (by decide)).trans (sv.1 i i0 i1), fun q q0 q1 => ⟨(ar 2 _ (by decide) (by decide)).trans (sv.2 q q0 q1).1, (ar 2 _ (by decide) (by decide)).trans (sv.2 q q0 q1).2⟩⟩, fun k V hk => ?_, fun k V hk => ?_⟩
        · have hk : (cutU (sU S) ++ [sV S])[k]? = some V := hk
          have hk1 : k < len + 1 := by
            have := (List.getElem?_eq_some_iff.mp hk).1
            rw [List.length_append, ← hlen] at this
            exact this
          by_cases ek : k = len
          · rw [ek, hlen, List.getElem?_append_right (Nat.le_refl _), Nat.sub_self] at hk
            cases hk
            rw [ek]
            refine ⟨fun i i0 i1 => ?_, fun r r0 r1 => ⟨?_, ?_⟩⟩
            · rw [i1' i i0 (by omega)]
              exact sv.1 i i0 i1
            · rw [i1' _ (by omega) (by omega)]
              exact (sv.2 r r0 r1).1
            · rw [i1' _ (by omega) (by omega)]
              exact (sv.2 r r0 r1).2
          · rw [List.getElem?_append_left (by omega)] at hk
            have q := su k V hk
            refine ⟨fun i i0 i1 => ?_, fun r r0 r1 => ⟨?_, ?_⟩⟩
            · rw [i2' _ (by omega)]
              exact q.1 i i0 i1
            · rw [i2' _ (by omega)]
              exact (q.2 r r0 r1).1
            · rw [i2' _ (by omega)]
              exact (q.2 r r0 r1).2
        · have q := sm k V hk
          exact ⟨fun i i0 i1 => (ar 4 _ (by decide) (by decide)).trans (q.1 i i0 i1), fun r r0 r1 => ⟨(ar 4 _ (by decide) (by decide)).trans (q.2 r r0 r1).1, (ar 4 _ (by decide) (by decide)).trans (q.2 r r0 r1).2⟩⟩
      · refine SOK.putU (T := T) (S := sPutU S (cutU (sU S))) O eT (fun W hW => ?_) (by rw [List.length_append, ← hlen]; show len + 1 ≤ 16; omega)
        rcases List.mem_append.mp hW with w | w
        · exact (O.1 T eT).2.2.1 W w
        · have w := List.mem_singleton.mp w
          subst w
          exact VO
  exact key 0 h1 (by decide) ⟨Int.le_refl _, XFr.refl h1, rfl, rfl, fun i i0 i1 => by omega, fun i _ => rfl⟩
/-- v is written -/
theorem MU.putV {B m n n' : Int} {h0 h g : XH} {S : XSt} {T : XTw} {V : Int → Int} (U : MU B m n h0 h S) (e : sT S = some T) (p : XFr (fun _ _ => False) (fun z => z = m + 2) h g) (z1 : xsz g = xsz h) (z2 : xsl g = xsl h) (hv : (∀ i : Int, 0 ≤ i → i < 8 → xar g (m + 2) i = V i) ∧ (∀ q : Int, 0 ≤ q → q < tpm T → xar g (m + 2) (8 + q) = V (8 + q) ∧ xar g (m + 2) (12 + q) = V (12 + q))) (O : SOK n' (sPutV S V)) : MU B m n' h0 g (sPutV S V) := by
  obtain ⟨R, O0, q, w1, w2⟩ := U
  obtain ⟨sv, su, sm⟩ := R.parts e
  have bnd := R.1
  have p' : XFr (MW m) (fun z => m ≤ z ∧ z < m + 15) h g := p.mono (fun z f _ w => w.elim) (fun z _ w => by omega)
  have fl : ∀ f, xfl g m f = xfl h m f := fun f => p.2.2.2.1 m f (by omega) (fun w => w)
  have ar : ∀ c i : Int, c < 15 → c ≠ 2 → xar g (m + c) i = xar h (m + c) i := fun c i h1 h2 => p.2.2.2.2 _ i (by omega) (fun w => by omega)
  refine ⟨R.re p' rfl (fl 69) ⟨(fl 72).trans R.2.2.1.1, fun j hj => (ar 1 _ (by decide) (by decide)).trans (R.2.2.1.2 j hj)⟩ ⟨(fl 67).trans R.2.2.2.1.1, (fl 68).trans R.2.2.2.1.2.1, (fl 78).trans R.2.2.2.1.2.2⟩ ⟨(fl 85).trans R.2.2.2.2.1.1, (fl 84).trans R.2.2.2.2.1.2⟩ (fun T' e' => ?_), O, q.trans p' (fun _ _ _ w => w) (fun z _ w => by omega), z1.trans w1, z2.trans w2⟩
  rw [e] at e'
  cases e'
  refine ⟨hv, fun k V hk => ?_, fun k V hk => ?_⟩
  · have q := su k V hk
    exact ⟨fun i i0 i1 => (ar 3 _ (by decide) (by decide)).trans (q.1 i i0 i1), fun r r0 r1 => ⟨(ar 3 _ (by decide) (by decide)).trans (q.2 r r0 r1).1, (ar 3 _ (by decide) (by decide)).trans (q.2 r r0 r1).2⟩⟩
  · have q := sm k V hk
    exact ⟨fun i i0 i1 => (ar 4 _ (by decide) (by decide)).trans (q.1 i i0 i1), fun r r0 r1 => ⟨(ar 4 _ (by decide) (by decide)).trans (q.2 r r0 r1).1, (ar 4 _ (by decide) (by decide)).trans (q.2 r r0 r1).2⟩⟩
