/-! WALKS, 34: rooms become other ones; builders -/
set_option maxRecDepth 100000
set_option maxHeartbeats 4000000
def FrB (a : Int) (h g : XH) : Prop := XFr (fun z f => z = a ∧ (f = 43 ∨ f = 44)) (fun z => a + 1 ≤ z ∧ z ≤ a + 3) h g ∧ xsz g = xsz h ∧ xsl g = xsl h
theorem x_become {d : Nat} {h : XH} {a r : Int} (La : RoomsL h a) (Lr : RoomsL h r) (dis : a + 4 ≤ r ∨ r + 4 ≤ a) : WpM d 112 [.inr (.inr a), .inr (.inr r)] h (XRet fun v h' => v = none ∧ FrB a h h' ∧ (xfl h' a 43 = xfl h r 43 ∧ xfl h' a 44 = xfl h r 44) ∧ (∀ i : Int, 0 ≤ i → i < 7 → xar h' (a + 1) i = xar h (r + 1) i) ∧ ∀ q : Int, 0 ≤ q → q < 4 → xar h' (a + 2) q = xar h (r + 2) q ∧ xar h' (a + 3) q = xar h (r + 3) q) := by
  obtain ⟨-, ta, ta1, ta2, ta3, fa1, fa2, fa3⟩ := La
  obtain ⟨-, tr, tr1, tr2, tr3, fr1, fr2, fr3⟩ := Lr
  refine WpM.of rfl (Wp.vc 400 [16] rfl ?_)
  refine ⟨isF tr rfl, isW ta rfl, isF tr rfl, isW ta rfl, ?_⟩
  obtain ⟨g, hg⟩ : ∃ g, g = xputf (xputf h a 43 (xfl h r 43)) a 44 (xfl (xputf h a 43 (xfl h r 43)) r 44) := ⟨_, rfl⟩
  have p : XFr (fun z f => z = a ∧ (f = 43 ∨ f = 44)) (fun z => a + 1 ≤ z ∧ z ≤ a + 3) h g := by
    rw [hg]
    exact ((XFr.refl h).putf (Or.inr ⟨rfl, Or.inl rfl⟩)).putf (Or.inr ⟨rfl, Or.inr rfl⟩)
  have z : xsz g = xsz h ∧ xsl g = xsl h := by rw [hg]; exact ⟨rfl, rfl⟩
  have ty : ∀ x, xty g x = xty h x := by rw [hg]; intro x; rfl
  have ar : ∀ x, xar g x = xar h x := by rw [hg]; intro x; rfl
  have f4 : xfl g a 43 = xfl h r 43 ∧ xfl g a 44 = xfl h r 44 := by
    rw [hg]
    refine ⟨(by (first | assumption | ((try simp only [xcs_putf, xty_putf, xar_putf, xsz_putf, xsl_putf, xfl_putf, xcs_puta, xty_puta, xfl_puta, xsz_puta, xsl_puta, xar_puta, xcs_copy, xty_copy, xfl_copy, xsz_copy, xsl_copy, xar_copy, xcs_newo, xar_newo, xsz_newo, xsl_newo, xty_newo, xfl_newo, xcs_newa, xfl_newa, xsz_newa, xsl_newa, xty_newa, xar_newa, and_true, true_and, and_false, false_and, ite_true, ite_false, eq_self, and_self]) <;> (repeat (first | rw [if_pos (by omega)] | rw [if_neg (by omega)])) <;> (first | assumption | rfl | omega)))), ?_⟩
    rw [xfl_putf, if_pos ⟨rfl, rfl⟩, xfl_putf, if_neg (by omega)]
  have fl : ∀ x f, f ≠ 43 → f ≠ 44 → xfl g x f = xfl h x f := by
    rw [hg]
    intro x f n1 n2
    rw [xfl_putf, if_neg (by omega), xfl_putf, if_neg (by omega)]
  rw [← hg]
  clear hg
  have e1 := (fl a 40 (by decide) (by decide)).trans fa1
  have e2 := (fl a 41 (by decide) (by decide)).trans fa2
  have e3 := (fl a 42 (by decide) (by decide)).trans fa3
  have e4 := (fl r 40 (by decide) (by decide)).trans fr1
  have e5 := (fl r 41 (by decide) (by decide)).trans fr2
  have e6 := (fl r 42 (by decide) (by decide)).trans fr3
  have ta := (ty _).trans ta
  have tr := (ty _).trans tr
  have ta1 := (ty _).trans ta1
  have ta2 := (ty _).trans ta2
  have ta3 := (ty _).trans ta3
  have tr1 := (ty _).trans tr1
  have tr2 := (ty _).trans tr2
  have tr3 := (ty _).trans tr3
  clear ty fl fa1 fa2 fa3 fr1 fr2 fr3
  refine Wp.vc 400 [] rfl ?_
  simp only [xfl_copy, xty_copy, e1, e2, e3, e4, e5, e6]
  refine ⟨isF tr rfl, isF ta rfl, ⟨true, 7, 7, tr1, ta1, by decide, by decide, by decide, by decide, by decide⟩, isF tr rfl, isF ta rfl, ⟨true, 4, 4, tr2, ta2, by decide, by decide, by decide, by decide, by decide⟩, isF tr rfl, isF ta rfl, ⟨true, 4, 4, tr3, ta3, by decide, by decide, by decide, by decide, by decide⟩, trivial, none, rfl, rfl, ⟨?_, z.1, z.2⟩, f4, fun i i0 i1 => ?_, fun q q0 q1 => ⟨?_, ?_⟩⟩
  · exact ((p.copy (Or.inr ⟨by omega, by omega⟩)).copy (Or.inr ⟨by omega, by omega⟩)).copy (Or.inr ⟨by omega, by omega⟩)
  · rw [xar_copy, if_neg (fun w => by omega), xar_copy, if_neg (fun w => by omega), xar_copy, if_pos ⟨rfl, by omega, by omega⟩, ar, show (0 : Int) + (i - 0) = i by omega]
  · rw [xar_copy, if_neg (fun w => by omega), xar_copy, if_pos ⟨rfl, by omega, by omega⟩, xar_copy, if_neg (fun w => by omega), ar, show (0 : Int) + (q - 0) = q by omega]
  · rw [xar_copy, if_pos ⟨rfl, by omega, by omega⟩, xar_copy, if_neg (fun w => by omega), xar_copy, if_neg (fun w => by omega), ar, show (0 : Int) + (q - 0) = q by omega]
/-- a call of become, told with the snapshots -/
theorem Wp.becK {d M pc np : Nat} {ls : XL} {st rest : XS} {h : XH} {a r t : Int} {T : XTw} {V : Int → Int} {Q : XO → XH → Prop} (TO : TOK T) (La : RoomsL h a) (Lr : RoomsL h r) (SN : SnapX h T r t V) (dis : a + 4 ≤ r ∨ r + 4 ≤ a) (e : xstK M pc 0 st = some (np, some 3, 112, [.inr (.inr a), .inr (.inr r)], rest)) (hw : xwords rest ≤ 8) (k : ∀ h1, FrB a h h1 → SnapX h1 T a t V → Wp (d + 1) M np ls rest h1 Q) : Wp (d + 1) M pc ls st h Q := by
  refine Wp.callR e hw ⟨true, La.2.1⟩ (x_become La Lr dis) (fun v h1 q => ?_)
  obtain ⟨rfl, q1, ⟨q2, q3⟩, q4, q5⟩ := q
  have hn := TO.2.2.1
  have hp := TO.2.2.2.1
  obtain ⟨s1, s2, s3, s4⟩ := SN
  exact k h1 q1 ⟨q2.trans s1, fun i i0 i1 => (q4 i i0 (by omega)).trans (s2 i i0 i1), q3.trans s3, fun q q0 q1 => ⟨((q5 q q0 (by omega)).1).trans (s4 q q0 q1).1, ((q5 q q0 (by omega)).2).trans (s4 q q0 q1).2⟩⟩
/-- an exchange in a row -/
def swp (V : Int → Int) (i j : Int) : Int → Int := fun k => if k = j then V i else if k = i then V j else V k
theorem swp_ok {V : Int → Int} {n i j : Int} (R : RowOK V n) (i0 : 0 ≤ i ∧ i < n) (j0 : 0 ≤ j ∧ j < n) : RowOK (swp V i j) n := fun k k0 k1 => by
  unfold swp
  split
  · exact R i i0.1 i0.2
  · split
    · exact R j j0.1 j0.2
    · exact R k k0 k1
theorem xputa_swp {h : XH} {a i j k : Int} {V : Int → Int} {n : Int} (H : ∀ q : Int, 0 ≤ q → q < n → xar h a q = V q) (i0 : 0 ≤ i ∧ i < n) (j0 : 0 ≤ j ∧ j < n) (k0 : 0 ≤ k ∧ k < n) : xar (xputa (xputa h a i (xar h a j)) a j (xar h a i)) a k = swp V i j k := by
  unfold swp
  rw [xar_puta]
  by_cases c : k = j
  · rw [if_pos ⟨rfl, c⟩, if_pos c, H i i0.1 i0.2]
  · rw [if_neg (fun w => c w.2), if_neg c, xar_puta]
    by_cases c2 : k = i
    · rw [if_pos ⟨rfl, c2⟩, if_pos c2, H j j0.1 j0.2]
    · rw [if_neg (fun w => c2 w.2), if_neg c2, H k k0.1 k0.2]
theorem canEx_congr {V W : Int → Int} {n i j : Int} (H : ∀ q : Int, 0 ≤ q → q < n → V q = W q) (i0 : 0 ≤ i ∧ i < n) (j0 : 0 ≤ j ∧ j < n) : canEx V i j ↔ canEx W i j := by
  unfold canEx
  rw [H i i0.1 i0.2, H j j0.1 j0.2]
def lcg (z : Int) : Int := (75 * z + 74) % 65537
theorem lcg_rg (z : Int) : 0 ≤ lcg z ∧ lcg z ≤ 65536 := by unfold lcg; omega
def bstep (n : Int) (s : Int × (Int → Int)) : Int × (Int → Int) := (lcg (lcg s.1), if canEx s.2 (lcg s.1 % n) (lcg (lcg s.1) % n) then swp s.2 (lcg s.1 % n) (lcg (lcg s.1) % n) else s.2)
def bldl (n seed : Int) (V : Int → Int) (k : Int) : Int × (Int → Int) := (nds k).foldl (fun s _ => bstep n s) (seed, V)
theorem bldl_succ {n seed k : Int} {V : Int → Int} (h : 0 ≤ k) : bldl n seed V (k + 1) = bstep n (bldl n seed V k) := by
  unfold bldl
  rw [nds_succ h, List.foldl_append]
  rfl
theorem bldl_ok {n seed : Int} {V : Int → Int} (n0 : 2 ≤ n ∧ n ≤ 7) (s0 : 0 ≤ seed ∧ seed ≤ 65536) (R : RowOK V n) : ∀ k : Nat, (0 ≤ (bldl n seed V k).1 ∧ (bldl n seed V k).1 ≤ 65536) ∧ RowOK (bldl n seed V k).2 n := by
  intro k
  induction k with
  | zero => exact ⟨s0, R⟩
  | succ k ih =>
    rw [show ((k + 1 : Nat) : Int) = (k : Int) + 1 by omega, bldl_succ (by omega)]
    refine ⟨lcg_rg _, ?_⟩
    show RowOK (if _ then _ else _) n
    have m1 : ∀ z : Int, 0 ≤ z % n ∧ z % n < n := fun z => ⟨Int.emod_nonneg _ (by omega), Int.emod_lt_of_pos _ (by omega)⟩
    split
    · exact swp_ok ih.2 (m1 _) (m1 _)
    · exact ih.2
def onB (seed k : Int) (r : Int × XSt) (S : XSt) : Int × XSt := if (0 ≤ seed ∧ seed ≤ 65536) ∧ (0 ≤ k ∧ k ≤ 60) then r else sNo S 2
def opBuilders (S : XSt) (seed k : Int) : Int × XSt := onT S fun T => onB seed k (sOk S (xones (xmutual (bldl (tnh T) seed (sV S) k).2 (tnh T)))) S
def opBuiltOf (S : XSt) (i seed k : Int) : Int × XSt := onH S i fun T => onB seed k (sOk S ((bldl (tnh T) seed (sV S) k).2 i)) S
theorem XU.buildK {d M pc np : Nat} {ls : XL} {st rest : XS} {B s n seed kk : Int} {h0 h : XH} {S : XSt} {T : XTw} {Q : XO → XH → Prop} (U : XU B s n h0 h S) (eT : sT S = some T) (e : xstK M pc 0 st = some (np, some 0, 57, [.inr (.inr s), .inl 1, .inl seed, .inl kk], rest)) (hw : xwords rest ≤ 8) (k0 : (0 ≤ seed ∧ seed ≤ 65536) ∧ (0 ≤ kk ∧ kk ≤ 60) → ∀ h1, XU B s n h0 h1 S → RoomsT h1 (s + 13) (xfl h1 s 3) (tnh T) → (∀ i : Int, 0 ≤ i → i < tnh T → xar h1 (s + 13 + 1) i = (bldl (tnh T) seed (sV S) kk).2 i) → Wp (d + 3) M np ls (.inl 0 :: rest) h1 Q) (k2 : ¬ ((0 ≤ seed ∧ seed ≤ 65536) ∧ (0 ≤ kk ∧ kk ≤ 60)) → Wp (d + 3) M np ls (.inl 2 :: rest) h Q) : Wp (d + 3) M pc ls st h Q := by
  by_cases cc : (0 ≤ seed ∧ seed ≤ 65536) ∧ (0 ≤ kk ∧ kk ≤ 60)
  · refine Wp.callR e hw ⟨true, U.ts⟩ (Q1 := fun v h' => v = some (.inl 0) ∧ XU B s n h0 h' S ∧ RoomsT h' (s + 13) (xfl h' s 3) (tnh T) ∧ (∀ i : Int, 0 ≤ i → i < tnh T → xar h' (s + 13 + 1) i = (bldl (tnh T) seed (sV S) kk).2 i)) ?_ (fun v h1 q => by
      obtain ⟨rfl, q1, q2, q3⟩ := q
      exact k0 cc h1 q1 q2 q3)
    have ts := U.ts
    have f11 : xfl h s 11 = s + 13 := U.lay.2.2.2.2.2.2.1.1
    have L13 := U.lay.2.2.2.2.2.2.1.2
    have TO := (U.ok eT).1
    have VO := (U.ok eT).2
    have hn := TO.2.2.1
    obtain ⟨RT, hv, ne, TX, SN⟩ := U.rooms eT
    have bnd := U.bnd
    refine WpM.of rfl (Wp.vc 400 [29] rfl ?_)
    refine ⟨fun _ => ?_, fun w => absurd (show ¬ (1 : Int) = 0 by decide) w⟩
    refine Wp.callE (j := 0) rfl (Nat.le_of_ble_eq_true rfl) trivial (x_in seed 0 65536) ?_
    rw [if_pos cc.1]
    refine Wp.vc 400 [29] rfl ?_
    refine ⟨fun w => absurd w (by decide), fun _ => ?_⟩
    refine Wp.callE (j := 0) rfl (Nat.le_of_ble_eq_true rfl) trivial (x_in kk 0 60) ?_
    rw [if_pos cc.2]
    refine Wp.vc 400 [] rfl ?_
    rw [f11, U.f9]
    refine ⟨fun _ => ⟨isF ts rfl, isF ts rfl, ?_⟩, fun w => absurd (show ¬ (1 : Int) = 0 by decide) w⟩
    refine Wp.becK (d := d + 1) TO L13 U.r5 SN (Or.inr (by omega)) rfl (Nat.le_of_ble_eq_true rfl) (fun h1 F1 S1 => ?_)
    have scr : ∀ g g', XU B s n h0 g S → XFr (fun z f => z = s + 13 ∧ xfin f = false) (fun z => s + 14 ≤ z ∧ z ≤ s + 16) g g' → xsz g' = xsz g → xsl g' = xsl g → XU B s n h0 g' S := fun g g' Ug p z1 z2 => Ug.scr (p.mono (fun z f _ w => Or.inr (Or.inr ⟨by omega, by omega, w.2⟩)) (fun z _ w => Or.inr (Or.inl ⟨by omega, by omega, by omega⟩))) z1 z2
    have U1 : XU B s n h0 h1 S := scr h h1 U (F1.1.mono (fun z f _ w => ⟨w.1, by rcases w.2 with e | e <;> rw [e] <;> rfl⟩) (fun z _ w => ⟨by omega, by omega⟩)) F1.2.1 F1.2.2
    have t3 : xfl h1 s 3 = xfl h s 3 := F1.1.2.2.2.1 s 3 (by omega) (fun w => by omega)
    have t43 : xfl h1 (s + 13) 43 = xfl h1 s 3 := S1.1.trans t3.symm
    have row1 : ∀ i : Int, 0 ≤ i → i < tnh T → xar h1 (s + 13 + 1) i = (bldl (tnh T) seed (sV S) 0).2 i := S1.2.1
    clear S1 F1 U SN TX RT hv L13 ne f11 ts t3
    refine Wp.vc 400 [46] rfl ?_
    have key : ∀ (k : Int) (h2 : XH), k ≤ kk → (0 ≤ k ∧ XU B s n h0 h2 S ∧ xfl h2 (s + 13) 43 = xfl h2 s 3 ∧ ∀ i : Int, 0 ≤ i → i < tnh T → xar h2 (s + 13 + 1) i = (bldl (tnh T) seed (sV S) k).2 i) → ∀ l6 l7, Wp (d + 2) 57 46 [some (.inr (.inr s)), some (.inl 1), some (.inl seed), some (.inl kk), some (.inl (bldl (tnh T) seed (sV S) k).1), some (.inl k), l6, l7] [] h2 (fun o h' => ∃ v, o = .inl v ∧ v = some (.inl 0) ∧ XU B s n h0 h' S ∧ RoomsT h' (s + 13) (xfl h' s 3) (tnh T) ∧ (∀ i : Int, 0 ≤ i → i < tnh T → xar h' (s + 13 + 1) i = (bldl (tnh T) seed (sV S) kk).2 i)) := by
      refine loopUp (G := fun k h2 => ∀ l6 l7, Wp (d + 2) 57 46 [some (.inr (.inr s)), some (.inl 1), some (.inl seed), some (.inl kk), some (.inl (bldl (tnh T) seed (sV S) k).1), some (.inl k), l6, l7] [] h2 (fun o h' => ∃ v, o = .inl v ∧ v = some (.inl 0) ∧ XU B s n h0 h' S ∧ RoomsT h' (s + 13) (xfl h' s 3) (tnh T) ∧ (∀ i : Int, 0 ≤ i → i < tnh T → xar h' (s + 13 + 1) i = (bldl (tnh T) seed (sV S) kk).2 i))) kk ?_ ?_
      · rintro k h2 ⟨k0', U2, e43, row⟩ hk ih l6 l7
        obtain ⟨-, -, -, TX, -⟩ := U2.rooms eT
        have ts := U2.ts
        have ct := TX.1.2.2
        have e111 : xfl h2 (xfl h2 s 3) 111 = tnh T := TX.2.2.1.2.2.1
        have f11 : xfl h2 s 11 = s + 13 := U2.lay.2.2.2.2.2.2.1.1
        have L13 := U2.lay.2.2.2.2.2.2.1.2
        have bo := bldl_ok (V := sV S) hn cc.1 VO.row k.toNat
        rw [show ((k.toNat : Nat) : Int) = k by omega] at bo
        rw [bldl_succ k0'] at ih
        obtain ⟨b, hb⟩ : ∃ b, b = bldl (tnh T) seed (sV S) k := ⟨_, rfl⟩
        rw [← hb] at ih bo row ⊢
        have l1 := lcg_rg b.1
        have l2 := lcg_rg (lcg b.1)
        have r1 : (75 * b.1 + 74).tmod 65537 = lcg b.1 := Int.tmod_eq_emod_of_nonneg (by omega)
        have r2 : (75 * lcg b.1 + 74).tmod 65537 = lcg (lcg b.1) := Int.tmod_eq_emod_of_nonneg (by omega)
        have r3 : (lcg b.1).tmod (tnh T) = lcg b.1 % tnh T := Int.tmod_eq_emod_of_nonneg l1.1
        have r4 : (lcg (lcg b.1)).tmod (tnh T) = lcg (lcg b.1) % tnh T := Int.tmod_eq_emod_of_nonneg l2.1
        have m1 : 0 ≤ lcg b.1 % tnh T ∧ lcg b.1 % tnh T < tnh T := ⟨Int.emod_nonneg _ (by omega), Int.emod_lt_of_pos _ (by omega)⟩
        have m2 : 0 ≤ lcg (lcg b.1) % tnh T ∧ lcg (lcg b.1) % tnh T < tnh T := ⟨Int.emod_nonneg _ (by omega), Int.emod_lt_of_pos _ (by omega)⟩
        have cx := x_canExchange (d := d + 1) (hp := h2) (a := s + 13) L13 (h := lcg b.1 % tnh T) (g := lcg (lcg b.1) % tnh T) ⟨m1.1, by omega⟩ ⟨m2.1, by omega⟩
        have ex := x_exchange_ (d := d + 1) (hp := h2) (a := s + 13) L13 (h := lcg b.1 % tnh T) (g := lcg (lcg b.1) % tnh T) ⟨m1.1, by omega⟩ ⟨m2.1, by omega⟩
        have eqv := canEx_congr (V := xar h2 (s + 13 + 1)) (W := b.2) row m1 m2
        clear TX
        refine Wp.vc 400 [46, 129] rfl ?_
        rw [r1, r2, e111, f11, r3, r4]
        refine ⟨fun w => absurd w (by omega), fun _ => ⟨by omega, by omega, ⟨by decide, Or.inl (by omega)⟩, isF ts rfl, isF ct rfl, ⟨by omega, Or.inl (by omega)⟩, by omega, by omega, ⟨by decide, Or.inl (by omega)⟩, isF ts rfl, isF ct rfl, ⟨by omega, Or.inl (by omega)⟩, isF ts rfl, ?_⟩⟩
        refine Wp.callE (j := 0) rfl (Nat.le_of_ble_eq_true rfl) ⟨true, L13.2.1⟩ cx ?_
        by_cases cx2 : canEx b.2 (lcg b.1 % tnh T) (lcg (lcg b.1) % tnh T)
        · rw [if_pos (eqv.mpr cx2)]
          have eb : bstep (tnh T) b = (lcg (lcg b.1), swp b.2 (lcg b.1 % tnh T) (lcg (lcg b.1) % tnh T)) := by
            show (_, if _ then _ else _) = _
            rw [if_pos cx2]
          rw [eb] at ih
          refine Wp.vc 400 [46, 129] rfl ?_
          rw [f11]
          refine ⟨fun w => absurd w (by decide), fun _ => ⟨isF ts rfl, ?_⟩⟩
          refine Wp.callE (j := 0) rfl (Nat.le_of_ble_eq_true rfl) ⟨true, L13.2.1⟩ ex ?_
          have U3 : XU B s n h0 (xputa (xputa h2 (s + 13 + 1) (lcg b.1 % tnh T) (xar h2 (s + 13 + 1) (lcg (lcg b.1) % tnh T))) (s + 13 + 1) (lcg (lcg b.1) % tnh T) (xar h2 (s + 13 + 1) (lcg b.1 % tnh T))) S := scr h2 _ U2 (((XFr.refl h2).puta (Or.inr ⟨by omega, by omega⟩)).puta (Or.inr ⟨by omega, by omega⟩)) rfl rfl
          have ih := ih _ ⟨by omega, U3, e43, fun i i0 i1 => xputa_swp row m1 m2 ⟨i0, i1⟩⟩
          refine Wp.vc 400 [46] rfl ?_
          exact ⟨by omega, ih _ _⟩
        · rw [if_neg (fun w => cx2 (eqv.mp w))]
          have eb : bstep (tnh T) b = (lcg (lcg b.1), b.2) := by
            show (_, if _ then _ else _) = _
            rw [if_neg cx2]
          rw [eb] at ih
          have ih := ih h2 ⟨by omega, U2, e43, row⟩
          refine Wp.vc 400 [46] rfl ?_
          exact ⟨fun _ => ⟨by omega, ih _ _⟩, fun w => absurd rfl w⟩
      · rintro h2 ⟨k0', U2, e43, row⟩ l6 l7
        obtain ⟨-, -, -, TX, -⟩ := U2.rooms eT
        have L13 := U2.lay.2.2.2.2.2.2.1.2
        have bo := bldl_ok (V := sV S) hn cc.1 VO.row kk.toNat
        rw [show ((kk.toNat : Nat) : Int) = kk by omega] at bo
        refine Wp.vc 400 [46, 52] rfl ?_
        refine ⟨fun _ => ⟨trivial, _, rfl, rfl, U2, ⟨L13, e43, ⟨true, TX.1.2.2⟩, TX.2.2.1.2.2.1, by omega, by omega, fun i i0 i1 => ?_⟩, row⟩, fun w => absurd (Int.le_refl _) w⟩
        rw [row i i0 i1]
        exact bo.2 i i0 i1
    exact key 0 h1 cc.2.1 ⟨Int.le_refl _, U1, t43, row1⟩ none none
  · refine Wp.callE e hw ⟨true, U.ts⟩ (v := some (.inl 2)) (h1 := h) ?_ (k2 cc)
    refine WpM.of rfl (Wp.vc 400 [27, 29] rfl ?_)
    refine ⟨fun _ => ?_, fun w => absurd (show ¬ (1 : Int) = 0 by decide) w⟩
    refine Wp.callE (j := 0) rfl (Nat.le_of_ble_eq_true rfl) trivial (x_in seed 0 65536) ?_
    by_cases c1 : 0 ≤ seed ∧ seed ≤ 65536
    · rw [if_pos c1]
      refine Wp.vc 400 [29] rfl ?_
      refine ⟨fun w => absurd w (by decide), fun _ => ?_⟩
      refine Wp.callE (j := 0) rfl (Nat.le_of_ble_eq_true rfl) trivial (x_in kk 0 60) ?_
      rw [if_neg (fun w => cc ⟨c1, w⟩)]
      refine Wp.vc 400 [29] rfl ?_
      exact ⟨fun w => absurd rfl w, fun _ => ⟨trivial, rfl, rfl⟩⟩
    · rw [if_neg c1]
      refine Wp.vc 400 [29] rfl ?_
      exact ⟨fun _ => ⟨trivial, rfl, rfl⟩, fun w => absurd rfl w⟩
theorem x_build0 {d : Nat} {h : XH} {s seed kk : Int} : WpM d 57 [.inr (.inr s), .inl 0, .inl seed, .inl kk] h (XE (some (.inl 1)) h) := by
  refine WpM.of rfl (Wp.vc 400 [6] rfl ?_)
  exact ⟨fun w => absurd rfl w, fun _ => ⟨trivial, rfl, rfl⟩⟩
theorem onB_y {seed k : Int} {r : Int × XSt} {S : XSt} (h : (0 ≤ seed ∧ seed ≤ 65536) ∧ (0 ≤ k ∧ k ≤ 60)) : onB seed k r S = r := if_pos h
theorem onB_n {seed k : Int} {r : Int × XSt} {S : XSt} (h : ¬ ((0 ≤ seed ∧ seed ≤ 65536) ∧ (0 ≤ k ∧ k ≤ 60))) : onB seed k r S = sNo S 2 := if_neg h
theorem x_opBuilders {d : Nat} {h : XH} {B s n seed k : Int} {S : XSt} (R : Rx h B s S) (O : SOK n S) : WpM (d + 3) 56 [.inr (.inr s), .inl seed, .inl k] h (XAn B s h (.inl (opBuilders S seed k).1) (opBuilders S seed k).2) := by
  refine WpM.of rfl (Wp.vc 400 [] rfl ?_)
  refine XU.anew R O rfl (Nat.zero_le _) (fun h1 U => ?_)
  have ts := U.ts
  cases e : sT S with
  | none =>
    rw [show opBuilders S seed k = _ from onT_no e]
    refine Wp.vc 400 [] rfl ?_
    rw [U.noT e]
    refine ⟨isF ts rfl, fun _ => ?_, fun w => absurd rfl w⟩
    refine Wp.callE (j := 0) rfl (Nat.le_of_ble_eq_true rfl) ⟨true, ts⟩ x_build0 ?_
    refine Wp.vc 400 [] rfl ?_
    first | refine ⟨fun _ => ?_, fun c => absurd (by decide) c⟩ | refine ⟨fun c => absurd c (by decide), fun _ => ?_⟩
    exact U.no (k := 1) (by decide) rfl (fun _ => rfl) rfl
  | some T =>
    rw [show opBuilders S seed k = _ from onT_yes e]
    obtain ⟨-, -, ne, -⟩ := U.rooms e
    have hn := (U.ok e).1.2.2.1
    refine Wp.vc 400 [] rfl ?_
    refine ⟨isF ts rfl, fun w => absurd w ne, fun _ => ?_⟩
    refine U.buildK e rfl (Nat.le_of_ble_eq_true rfl) (fun cc h2 U2 RT row => ?_) (fun cc => ?_)
    · rw [onB_y cc]
      have mu := x_mutual (d := d + 1) RT
      have RO := RT.2.2.2.2.2.2
      rw [xmutual_congr RO row] at mu
      have mr := xmutual_rg (bldl (tnh T) seed (sV S) k).2 (n := tnh T) ⟨by omega, by omega⟩
      refine Wp.vc 400 [] rfl ?_
      rw [U2.lay.2.2.2.2.2.2.1.1]
      refine ⟨fun _ => ⟨isF U2.ts rfl, ?_⟩, fun w => absurd rfl w⟩
      refine Wp.callE (j := 0) rfl (Nat.le_of_ble_eq_true rfl) ⟨true, RT.1.2.1⟩ mu ?_
      refine Wp.vc 400 [] rfl ?_
      refine Wp.callE (j := 0) rfl (Nat.le_of_ble_eq_true rfl) trivial (x_ones _ mr) ?_
      refine Wp.vc 400 [] rfl ?_
      exact ⟨trivial, U2.ret⟩
    · rw [onB_n cc]
      refine Wp.vc 400 [] rfl ?_
      first | refine ⟨fun _ => ?_, fun c => absurd (by decide) c⟩ | refine ⟨fun c => absurd c (by decide), fun _ => ?_⟩
      exact U.no (k := 2) (by decide) rfl (fun _ => rfl) rfl
theorem x_opBuiltOf {d : Nat} {h : XH} {B s n i seed k : Int} {S : XSt} (R : Rx h B s S) (O : SOK n S) : WpM (d + 3) 58 [.inr (.inr s), .inl i, .inl seed, .inl k] h (XAn B s h (.inl (opBuiltOf S i seed k).1) (opBuiltOf S i seed k).2) := by
  refine WpM.of rfl (Wp.vc 400 [] rfl ?_)
  refine XU.anew R O rfl (Nat.zero_le _) (fun h1 U => ?_)
  have ts := U.ts
  refine Wp.vc 400 [] rfl ?_
  refine XU.hou (d := d + 1) U rfl (Nat.le_of_ble_eq_true rfl) (fun T e i0 => ?_) (fun hp => ?_)
  · rw [show opBuiltOf S i seed k = _ from onH_yes e i0]
    have hn := (U.ok e).1.2.2.1
    refine Wp.vc 400 [] rfl ?_
    refine U.buildK e rfl (Nat.le_of_ble_eq_true rfl) (fun cc h2 U2 RT row => ?_) (fun cc => ?_)
    · rw [onB_y cc]
      refine Wp.vc 400 [] rfl ?_
      rw [U2.lay.2.2.2.2.2.2.1.1, RT.1.2.2.2.2.2.1, row i i0.1 i0.2]
      exact ⟨fun _ => ⟨isF U2.ts rfl, isF RT.1.2.1 rfl, isA RT.1.2.2.1 i0.1 (by omega), trivial, U2.ret⟩, fun w => absurd rfl w⟩
    · rw [onB_n cc]
      refine Wp.vc 400 [] rfl ?_
      first | refine ⟨fun _ => ?_, fun c => absurd (by decide) c⟩ | refine ⟨fun c => absurd c (by decide), fun _ => ?_⟩
      exact U.no (k := 2) (by decide) rfl (fun _ => rfl) rfl
  · rw [show opBuiltOf S i seed k = _ from onH_no hp]
    refine Wp.vc 400 [] rfl ?_
    refine Wp.callE (j := 0) rfl (Nat.le_of_ble_eq_true rfl) ⟨true, ts⟩ x_build0 ?_
    refine Wp.vc 400 [] rfl ?_
    first | refine ⟨fun _ => ?_, fun c => absurd (by decide) c⟩ | refine ⟨fun c => absurd c (by decide), fun _ => ?_⟩
    exact U.no (k := 1) (by decide) rfl (fun _ => rfl) rfl
theorem m_drawn {d : Nat} {h0 h : XH} {B m n z : Int} {S : XSt} {T : XTw} (U : MU B m n h0 h S) (eT : sT S = some T) (z0 : 0 ≤ z ∧ z ≤ 65536) (fz : xfl h m 104 = z) : WpM d 240 [.inr (.inr m)] h (XE (some (.inl (lcg z % tnh T))) (xputf h m 104 (lcg z))) := by
  obtain ⟨ne, TX, -⟩ := U.hasT eT
  have hn := (U.ok eT).1.2.2.1
  have tm := U.tm
  have c0 := TX.1.2.2
  have e135 : xfl h (xfl h m 69) 135 = tnh T := TX.2.2.1.2.2.1
  have bm := U.bnd
  have hb := TX.1.1
  clear TX
  have l1 := lcg_rg z
  have r1 : (75 * z + 74).tmod 65537 = lcg z := Int.tmod_eq_emod_of_nonneg (by omega)
  have r3 : (lcg z).tmod (tnh T) = lcg z % tnh T := Int.tmod_eq_emod_of_nonneg l1.1
  refine WpM.of rfl (Wp.vc 400 [] rfl ?_)
  rw [fz, r1]
  rw [show xfl (xputf h m 104 (lcg z)) m 104 = lcg z by rw [xfl_putf, if_pos ⟨rfl, rfl⟩], show xfl (xputf h m 104 (lcg z)) m 69 = xfl h m 69 from (by (first | assumption | ((try simp only [xcs_putf, xty_putf, xar_putf, xsz_putf, xsl_putf, xfl_putf, xcs_puta, xty_puta, xfl_puta, xsz_puta, xsl_puta, xar_puta, xcs_copy, xty_copy, xfl_copy, xsz_copy, xsl_copy, xar_copy, xcs_newo, xar_newo, xsz_newo, xsl_newo, xty_newo, xfl_newo, xcs_newa, xfl_newa, xsz_newa, xsl_newa, xty_newa, xar_newa, and_true, true_and, and_false, false_and, ite_true, ite_false, eq_self, and_self]) <;> (repeat (first | rw [if_pos (by omega)] | rw [if_neg (by omega)])) <;> (first | assumption | rfl | omega)))), show xfl (xputf h m 104 (lcg z)) (xfl h m 69) 135 = xfl h (xfl h m 69) 135 from (by (first | assumption | ((try simp only [xcs_putf, xty_putf, xar_putf, xsz_putf, xsl_putf, xfl_putf, xcs_puta, xty_puta, xfl_puta, xsz_puta, xsl_puta, xar_puta, xcs_copy, xty_copy, xfl_copy, xsz_copy, xsl_copy, xar_copy, xcs_newo, xar_newo, xsz_newo, xsl_newo, xty_newo, xfl_newo, xcs_newa, xfl_newa, xsz_newa, xsl_newa, xty_newa, xar_newa, and_true, true_and, and_false, false_and, ite_true, ite_false, eq_self, and_self]) <;> (repeat (first | rw [if_pos (by omega)] | rw [if_neg (by omega)])) <;> (first | assumption | rfl | omega)))), e135, r3]
  exact ⟨isF tm rfl, by omega, by omega, ⟨by decide, Or.inl (by omega)⟩, by omega, isW tm rfl, isF tm rfl, isF tm rfl, isF c0 rfl, ⟨by omega, Or.inl (by omega)⟩, trivial, rfl, rfl⟩
theorem MU.buildK {d M pc np : Nat} {ls : XL} {st rest : XS} {B m n seed kk : Int} {h0 h : XH} {S : XSt} {T : XTw} {Q : XO → XH → Prop} (U : MU B m n h0 h S) (eT : sT S = some T) (e : xstK M pc 0 st = some (np, some 9, 239, [.inr (.inr m), .inl 1, .inl seed, .inl kk], rest)) (hw : xwords rest ≤ 8) (k0 : (0 ≤ seed ∧ seed ≤ 65536) ∧ (0 ≤ kk ∧ kk ≤ 60) → ∀ h1, MU B m n h0 h1 S → (∀ i : Int, 0 ≤ i → i < tnh T → xar h1 (m + 5) i = (bldl (tnh T) seed (sV S) kk).2 i) → (∀ i : Int, tnh T ≤ i → i < 7 → xar h1 (m + 5) i = -2) → Wp (d + 2) M np ls (.inl 0 :: rest) h1 Q) (k2 : ¬ ((0 ≤ seed ∧ seed ≤ 65536) ∧ (0 ≤ kk ∧ kk ≤ 60)) → Wp (d + 2) M np ls (.inl 2 :: rest) h Q) : Wp (d + 2) M pc ls st h Q := by
  by_cases cc : (0 ≤ seed ∧ seed ≤ 65536) ∧ (0 ≤ kk ∧ kk ≤ 60)
  · refine Wp.callR e hw ⟨true, U.tm⟩ (Q1 := fun v h' => v = some (.inl 0) ∧ MU B m n h0 h' S ∧ (∀ i : Int, 0 ≤ i → i < tnh T → xar h' (m + 5) i = (bldl (tnh T) seed (sV S) kk).2 i) ∧ (∀ i : Int, tnh T ≤ i → i < 7 → xar h' (m + 5) i = -2)) ?_ (fun v h1 q => by
      obtain ⟨rfl, q1, q2, q3⟩ := q
      exact k0 cc h1 q1 q2 q3)
    have tm := U.tm
    have VO := (U.ok eT).2
    have hn := (U.ok eT).1.2.2.1
    refine WpM.of rfl (Wp.vc 400 [29] rfl ?_)
    refine ⟨fun _ => ?_, fun w => absurd (show ¬ (1 : Int) = 0 by decide) w⟩
    refine Wp.callE (j := 0) rfl (Nat.le_of_ble_eq_true rfl) trivial (m_in seed 0 65536) ?_
    rw [if_pos cc.1]
    refine Wp.vc 400 [29] rfl ?_
    refine ⟨fun w => absurd w (by decide), fun _ => ?_⟩
    refine Wp.callE (j := 0) rfl (Nat.le_of_ble_eq_true rfl) trivial (m_in kk 0 60) ?_
    rw [if_pos cc.2]
    refine Wp.vc 400 [] rfl ?_
    refine ⟨fun _ => ⟨isW tm rfl, ?_⟩, fun w => absurd (show ¬ (1 : Int) = 0 by decide) w⟩
    have U1 : MU B m n h0 (xputf h m 104 seed) S := U.scr ((XFr.refl h).putf (Or.inr ⟨rfl, by omega⟩)) rfl rfl
    have f1 : xfl (xputf h m 104 seed) m 104 = seed := by rw [xfl_putf, if_pos ⟨rfl, rfl⟩]
    obtain ⟨g, hg⟩ : ∃ g, g = xputf h m 104 seed := ⟨_, rfl⟩
    rw [← hg] at U1 f1 ⊢
    clear hg U tm
    have bm := U1.bnd
    refine Wp.callR (j := 0) rfl (Nat.le_of_ble_eq_true rfl) ⟨true, U1.tm⟩ (m_tries U1.lay (by omega)) (fun v h2 q => ?_)
    obtain ⟨rfl, q1, q2, z3, z4⟩ := q
    have hv := (U1.hasT eT).2.2.1
    have U2 : MU B m n h0 h2 S := U1.scr (q2.mono (fun _ _ _ w => w.elim) (fun z _ w => ⟨by omega, by omega⟩)) z3 z4
    have f2 : xfl h2 m 104 = (bldl (tnh T) seed (sV S) 0).1 := (q2.2.2.2.1 m 104 (by omega) (fun w => w)).trans f1
    have row2 : ∀ i : Int, 0 ≤ i → i < tnh T → xar h2 (m + 5) i = (bldl (tnh T) seed (sV S) 0).2 i := fun i i0 i1 => (q1 i i0 (by omega)).trans (hv i i0 (by omega))
    have free2 : ∀ i : Int, tnh T ≤ i → i < 7 → xar h2 (m + 5) i = -2 := fun i i0 i1 => ((q1 i (by omega) i1).trans (hv i (by omega) (by omega))).trans (VO.2.2.1 i i0 i1)
    clear q1 q2 hv U1 z3 z4 f1
    refine Wp.vc 400 [41] rfl ?_
    have key : ∀ (k : Int) (h3 : XH), k ≤ kk → (0 ≤ k ∧ MU B m n h0 h3 S ∧ xfl h3 m 104 = (bldl (tnh T) seed (sV S) k).1 ∧ (∀ i : Int, 0 ≤ i → i < tnh T → xar h3 (m + 5) i = (bldl (tnh T) seed (sV S) k).2 i) ∧ ∀ i : Int, tnh T ≤ i → i < 7 → xar h3 (m + 5) i = -2) → ∀ l5 l6, Wp (d + 1) 239 41 [some (.inr (.inr m)), some (.inl 1), some (.inl seed), some (.inl kk), some (.inl k), l5, l6] [] h3 (fun o h' => ∃ v, o = .inl v ∧ v = some (.inl 0) ∧ MU B m n h0 h' S ∧ (∀ i : Int, 0 ≤ i → i < tnh T → xar h' (m + 5) i = (bldl (tnh T) seed (sV S) kk).2 i) ∧ (∀ i : Int, tnh T ≤ i → i < 7 → xar h' (m + 5) i = -2)) := by
      refine loopUp (G := fun k h3 => ∀ l5 l6, Wp (d + 1) 239 41 [some (.inr (.inr m)), some (.inl 1), some (.inl seed), some (.inl kk), some (.inl k), l5, l6] [] h3 (fun o h' => ∃ v, o = .inl v ∧ v = some (.inl 0) ∧ MU B m n h0 h' S ∧ (∀ i : Int, 0 ≤ i → i < tnh T → xar h' (m + 5) i = (bldl (tnh T) seed (sV S) kk).2 i) ∧ (∀ i : Int, tnh T ≤ i → i < 7 → xar h' (m + 5) i = -2))) kk ?_ ?_
      · rintro k h3 ⟨k0', U3, f3, row, free⟩ hk ih l5 l6
        have bo := bldl_ok (V := sV S) hn cc.1 VO.row k.toNat
        rw [show ((k.toNat : Nat) : Int) = k by omega] at bo
        rw [bldl_succ k0'] at ih
        obtain ⟨b, hb⟩ : ∃ b, b = bldl (tnh T) seed (sV S) k := ⟨_, rfl⟩
        rw [← hb] at ih bo row f3
        have l1 := lcg_rg b.1
        have l2 := lcg_rg (lcg b.1)
        have m1 : 0 ≤ lcg b.1 % tnh T ∧ lcg b.1 % tnh T < tnh T := ⟨Int.emod_nonneg _ (by omega), Int.emod_lt_of_pos _ (by omega)⟩
        have m2 : 0 ≤ lcg (lcg b.1) % tnh T ∧ lcg (lcg b.1) % tnh T < tnh T := ⟨Int.emod_nonneg _ (by omega), Int.emod_lt_of_pos _ (by omega)⟩
        have dr1 := m_drawn (d := d) U3 eT bo.1 f3
        refine Wp.vc 400 [41, 84] rfl ?_
        refine ⟨fun w => absurd w (by omega), fun _ => ?_⟩
        refine Wp.callE (j := 0) rfl (Nat.le_of_ble_eq_true rfl) ⟨true, U3.tm⟩ dr1 ?_
        have put : ∀ g z, MU B m n h0 g S → MU B m n h0 (xputf g m 104 z) S := fun g z Ug => Ug.scr ((XFr.refl g).putf (Or.inr ⟨rfl, by omega⟩)) rfl rfl
        have U4 := put h3 (lcg b.1) U3
        have dr2 := m_drawn (d := d) U4 eT l1 (by rw [xfl_putf, if_pos ⟨rfl, rfl⟩])
        refine Wp.vc 400 [41, 84] rfl ?_
        refine Wp.callE (j := 0) rfl (Nat.le_of_ble_eq_true rfl) ⟨true, U4.tm⟩ dr2 ?_
        have U5 := put _ (lcg (lcg b.1)) U4
        have f5' : xfl (xputf (xputf h3 m 104 (lcg b.1)) m 104 (lcg (lcg b.1))) m 104 = lcg (lcg b.1) := by rw [xfl_putf, if_pos ⟨rfl, rfl⟩]
        have ar5 : ∀ x i, xar (xputf (xputf h3 m 104 (lcg b.1)) m 104 (lcg (lcg b.1))) x i = xar h3 x i := fun x i => rfl
        obtain ⟨g, hg⟩ : ∃ g, g = xputf (xputf h3 m 104 (lcg b.1)) m 104 (lcg (lcg b.1)) := ⟨_, rfl⟩
        rw [← hg] at U5 f5' ar5 ⊢
        have row5 : ∀ i : Int, 0 ≤ i → i < tnh T → xar g (m + 5) i = b.2 i := fun i i0 i1 => (ar5 _ i).trans (row i i0 i1)
        have free5 : ∀ i : Int, tnh T ≤ i → i < 7 → xar g (m + 5) i = -2 := fun i i0 i1 => (ar5 _ i).trans (free i i0 i1)
        clear hg dr1 dr2 U3 U4 put
        have tm := U5.tm
        have bm := U5.bnd
        obtain ⟨t5, f5⟩ := U5.lay.2.2.2.2.2.1
        have cx := m_canExchange (d := d) t5 (h := lcg b.1 % tnh T) (g := lcg (lcg b.1) % tnh T) ⟨m1.1, by omega⟩ ⟨m2.1, by omega⟩
        have ex := m_exchanges (d := d) t5 (h := lcg b.1 % tnh T) (g := lcg (lcg b.1) % tnh T) ⟨m1.1, by omega⟩ ⟨m2.1, by omega⟩
        have eqv := canEx_congr (V := xar g (m + 5)) (W := b.2) row5 m1 m2
        refine Wp.vc 400 [41, 84] rfl ?_
        rw [f5]
        refine ⟨isF tm rfl, ?_⟩
        refine Wp.callE (j := 0) rfl (Nat.le_of_ble_eq_true rfl) trivial cx ?_
        by_cases cx2 : canEx b.2 (lcg b.1 % tnh T) (lcg (lcg b.1) % tnh T)
        · rw [if_pos (eqv.mpr cx2)]
          have eb : bstep (tnh T) b = (lcg (lcg b.1), swp b.2 (lcg b.1 % tnh T) (lcg (lcg b.1) % tnh T)) := by
            show (_, if _ then _ else _) = _
            rw [if_pos cx2]
          rw [eb] at ih
          refine Wp.vc 400 [41, 84] rfl ?_
          rw [f5]
          refine ⟨fun w => absurd w (by decide), fun _ => ⟨isF tm rfl, ?_⟩⟩
          refine Wp.callE (j := 0) rfl (Nat.le_of_ble_eq_true rfl) trivial ex ?_
          have U6 : MU B m n h0 (xputa (xputa g (m + 5) (lcg b.1 % tnh T) (xar g (m + 5) (lcg (lcg b.1) % tnh T))) (m + 5) (lcg (lcg b.1) % tnh T) (xar g (m + 5) (lcg b.1 % tnh T))) S := U5.scr (((XFr.refl g).puta (Or.inr ⟨by omega, by omega⟩)).puta (Or.inr ⟨by omega, by omega⟩)) rfl rfl
          have ih := ih _ ⟨by omega, U6, f5', fun i i0 i1 => xputa_swp row5 m1 m2 ⟨i0, i1⟩, fun i i0 i1 => by rw [xar_puta, if_neg (fun w => by omega), xar_puta, if_neg (fun w => by omega)]; exact free5 i i0 i1⟩
          refine Wp.vc 400 [41] rfl ?_
          exact ⟨by omega, ih _ _⟩
        · rw [if_neg (fun w => cx2 (eqv.mp w))]
          have eb : bstep (tnh T) b = (lcg (lcg b.1), b.2) := by
            show (_, if _ then _ else _) = _
            rw [if_neg cx2]
          rw [eb] at ih
          have ih := ih g ⟨by omega, U5, f5', row5, free5⟩
          refine Wp.vc 400 [41] rfl ?_
          exact ⟨fun _ => ⟨by omega, ih _ _⟩, fun w => absurd rfl w⟩
      · rintro h3 ⟨k0', U3, f3, row, free⟩ l5 l6
        refine Wp.vc 400 [41, 47] rfl ?_
        exact ⟨fun _ => ⟨trivial, _, rfl, rfl, U3, row, free⟩, fun w => absurd (Int.le_refl _) w⟩
    exact key 0 h2 cc.2.1 ⟨Int.le_refl _, U2, f2, row2, free2⟩ none none
  · refine Wp.callE e hw ⟨true, U.tm⟩ (v := some (.inl 2)) (h1 := h) ?_ (k2 cc)
    refine WpM.of rfl (Wp.vc 400 [27, 29] rfl ?_)
    refine ⟨fun _ => ?_, fun w => absurd (show ¬ (1 : Int) = 0 by decide) w⟩
    refine Wp.callE (j := 0) rfl (Nat.le_of_ble_eq_true rfl) trivial (m_in seed 0 65536) ?_
    by_cases c1 : 0 ≤ seed ∧ seed ≤ 65536
    · rw [if_pos c1]
      refine Wp.vc 400 [29] rfl ?_
      refine ⟨fun w => absurd w (by decide), fun _ => ?_⟩
      refine Wp.callE (j := 0) rfl (Nat.le_of_ble_eq_true rfl) trivial (m_in kk 0 60) ?_
      rw [if_neg (fun w => cc ⟨c1, w⟩)]
      refine Wp.vc 400 [29] rfl ?_
      exact ⟨fun w => absurd rfl w, fun _ => ⟨trivial, rfl, rfl⟩⟩
    · rw [if_neg c1]
      refine Wp.vc 400 [29] rfl ?_
      exact ⟨fun _ => ⟨trivial, rfl, rfl⟩, fun w => absurd rfl w⟩
theorem m_build0 {d : Nat} {h : XH} {m seed kk : Int} : WpM d 239 [.inr (.inr m), .inl 0, .inl seed, .inl kk] h (XE (some (.inl 1)) h) := by
  refine WpM.of rfl (Wp.vc 400 [6] rfl ?_)
  exact ⟨fun w => absurd rfl w, fun _ => ⟨trivial, rfl, rfl⟩⟩
theorem m_opBuilders {d : Nat} {h : XH} {B m n seed k : Int} {S : XSt} (R : Rm h B m S) (O : SOK n S) : WpM (d + 2) 238 [.inr (.inr m), .inl seed, .inl k] h (MAn B m h (.inl (opBuilders S seed k).1) (opBuilders S seed k).2) := by
  refine WpM.of rfl (MU.start R O rfl (fun g U => ?_))
  have tm := U.tm
  cases e : sT S with
  | none =>
    rw [show opBuilders S seed k = _ from onT_no e]
    refine Wp.vc 400 [] rfl ?_
    rw [U.noT e]
    refine ⟨isF tm rfl, fun _ => ?_, fun w => absurd rfl w⟩
    refine Wp.callE (j := 0) rfl (Nat.le_of_ble_eq_true rfl) ⟨true, tm⟩ m_build0 ?_
    refine Wp.vc 400 [] rfl ?_
    first | refine ⟨fun _ => ?_, fun c => absurd (by decide) c⟩ | refine ⟨fun c => absurd c (by decide), fun _ => ?_⟩
    exact U.ref (k := 1) rfl (fun _ => rfl) rfl
  | some T =>
    rw [show opBuilders S seed k = _ from onT_yes e]
    obtain ⟨ne, -⟩ := U.hasT e
    have hn := (U.ok e).1.2.2.1
    have VO := (U.ok e).2
    refine Wp.vc 400 [] rfl ?_
    refine ⟨isF tm rfl, fun w => absurd w ne, fun _ => ?_⟩
    refine U.buildK e rfl (Nat.le_of_ble_eq_true rfl) (fun cc h2 U2 row free => ?_) (fun cc => ?_)
    · rw [onB_y cc]
      have bo := bldl_ok (V := sV S) hn cc.1 VO.row k.toNat
      rw [show ((k.toNat : Nat) : Int) = k by omega] at bo
      have RO : RowOK (xar h2 (m + 5)) (tnh T) := fun i i0 i1 => by
        rw [row i i0 i1]
        exact bo.2 i i0 i1
      obtain ⟨t5, f5⟩ := U2.lay.2.2.2.2.2.1
      have mu := m_pairedIn (d := d + 1) t5 (by omega) hn.2 RO free
      rw [xmutual_congr RO row] at mu
      have mr := xmutual_rg (bldl (tnh T) seed (sV S) k).2 (n := tnh T) ⟨by omega, by omega⟩
      refine Wp.vc 400 [] rfl ?_
      rw [f5]
      refine ⟨fun _ => ⟨isF U2.tm rfl, ?_⟩, fun w => absurd (Int.le_refl _) w⟩
      refine Wp.callE (j := 0) rfl (Nat.le_of_ble_eq_true rfl) trivial mu ?_
      refine Wp.vc 400 [] rfl ?_
      refine Wp.callE (j := 0) rfl (Nat.le_of_ble_eq_true rfl) trivial (m_bits _ mr) ?_
      refine Wp.vc 400 [] rfl ?_
      exact U2.good rfl (fun _ => rfl) rfl
    · rw [onB_n cc]
      refine Wp.vc 400 [] rfl ?_
      first | refine ⟨fun _ => ?_, fun c => absurd (by decide) c⟩ | refine ⟨fun c => absurd c (by decide), fun _ => ?_⟩
      exact U.ref (k := 2) rfl (fun _ => rfl) rfl
theorem m_opBuiltOf {d : Nat} {h : XH} {B m n i seed k : Int} {S : XSt} (R : Rm h B m S) (O : SOK n S) : WpM (d + 2) 241 [.inr (.inr m), .inl i, .inl seed, .inl k] h (MAn B m h (.inl (opBuiltOf S i seed k).1) (opBuiltOf S i seed k).2) := by
  refine WpM.of rfl (MU.start R O rfl (fun g U => ?_))
  have tm := U.tm
  refine Wp.vc 400 [] rfl ?_
  refine U.hou rfl (Nat.le_of_ble_eq_true rfl) (fun T e i0 => ?_) (fun hp => ?_)
  · rw [show opBuiltOf S i seed k = _ from onH_yes e i0]
    have hn := (U.ok e).1.2.2.1
    refine Wp.vc 400 [] rfl ?_
    refine U.buildK e rfl (Nat.le_of_ble_eq_true rfl) (fun cc h2 U2 row free => ?_) (fun cc => ?_)
    · rw [onB_y cc]
      obtain ⟨t5, f5⟩ := U2.lay.2.2.2.2.2.1
      refine Wp.vc 400 [] rfl ?_
      rw [f5, row i i0.1 i0.2]
      refine ⟨fun _ => ⟨isF U2.tm rfl, isA t5 i0.1 (by omega), ?_⟩, fun w => absurd (Int.le_refl _) w⟩
      exact U2.good rfl (fun _ => rfl) rfl
    · rw [onB_n cc]
      refine Wp.vc 400 [] rfl ?_
      first | refine ⟨fun _ => ?_, fun c => absurd (by decide) c⟩ | refine ⟨fun c => absurd c (by decide), fun _ => ?_⟩
      exact U.ref (k := 2) rfl (fun _ => rfl) rfl
  · rw [show opBuiltOf S i seed k = _ from onH_no hp]
    refine Wp.vc 400 [] rfl ?_
    refine Wp.callE (j := 0) rfl (Nat.le_of_ble_eq_true rfl) ⟨true, tm⟩ m_build0 ?_
    refine Wp.vc 400 [] rfl ?_
    first | refine ⟨fun _ => ?_, fun c => absurd (by decide) c⟩ | refine ⟨fun c => absurd c (by decide), fun _ => ?_⟩
    exact U.ref (k := 1) rfl (fun _ => rfl) rfl
