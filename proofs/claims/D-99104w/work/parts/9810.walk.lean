/-! WALKS, 49: rows of exchanges: WrongRoom's search and its answers -/
set_option maxRecDepth 100000
set_option maxHeartbeats 4000000
/-- the fewest exchanges that pair most, of rows shorter than k -/
def exA (n : Int) (V : Int → Int) (k : Int) : Int × List Int := (nds k).foldl (fun a q => (exs n q.toNat V).foldl (exb n) a) (-1, [])
theorem exA_0 {n : Int} {V : Int → Int} : exA n V 0 = (-1, []) := rfl
theorem exA_st {n : Int} {V : Int → Int} {k : Int} (k0 : 0 ≤ k) : exA n V (k + 1) = (exs n k.toNat V).foldl (exb n) (exA n V k) := by
  unfold exA
  rw [nds_succ k0, List.foldl_append]
  rfl
def opPaired (S : XSt) : Int × XSt := onT S fun T => sOk S (exA (tnh T) (sV S) 4).1
def opFewest (S : XSt) : Int × XSt := onT S fun T => sOk S ((exA (tnh T) (sV S) 4).2.length : Int)
def opExchangeAt (S : XSt) (i : Int) : Int × XSt := onT S fun T => if 0 ≤ i ∧ i < ((exA (tnh T) (sV S) 4).2.length : Int) then sOk S (xc10 ((exA (tnh T) (sV S) 4).2.getD i.toNat 0)) else sNo S 1
theorem XU.f16 {B s n : Int} {h0 h : XH} {S : XSt} (U : XU B s n h0 h S) : xfl h s 16 = s + 27 := U.lay.2.2.2.2.2.2.2.2.2.2.2.1.1
theorem XU.l27 {B s n : Int} {h0 h : XH} {S : XSt} (U : XU B s n h0 h S) : ExL h (s + 27) := U.lay.2.2.2.2.2.2.2.2.2.2.2.1.2
theorem exP_nil {l : List (List Int × (Int → Int))} : exP [] l = l := by
  unfold exP
  exact List.map_id'' (fun _ => rfl) l
theorem XU.exK {d M pc np : Nat} {ls : XL} {st rest : XS} {B s n : Int} {h0 h : XH} {S : XSt} {T : XTw} {Q : XO → XH → Prop} (U : XU B s n h0 h S) (eT : sT S = some T) (e : xstK M pc 0 st = some (np, some 8, 135, [.inr (.inr (s + 27)), .inr (.inr (xfl h s 3)), .inr (.inr (s + 5))], rest)) (hw : xwords rest ≤ 8) (k : ∀ h1, XU B s n h0 h1 S → AccE h1 (s + 27) (exA (tnh T) (sV S) 4) → Wp (d + 11) M np ls rest h1 Q) : Wp (d + 11) M pc ls st h Q := by
  have L := U.l27
  refine Wp.callR e hw ⟨true, L.1⟩ (Q1 := fun v h' => v = none ∧ XU B s n h0 h' S ∧ AccE h' (s + 27) (exA (tnh T) (sV S) 4)) ?_ (fun v h1 q => by
    obtain ⟨rfl, q1, q2⟩ := q
    exact k h1 q1 q2)
  obtain ⟨RT, hv, ne, TX, SN⟩ := U.rooms eT
  obtain ⟨TO, VO⟩ := U.ok eT
  have hn := TO.2.2.1
  have bnd := U.bnd
  have tb := TX.1
  have t111 : xfl h (xfl h s 3) 111 = tnh T := RT.2.2.2.1
  have RO : RowOK (sV S) (tnh T) := fun i i0 i1 => by
    rw [← hv i i0 i1]
    exact RT.2.2.2.2.2.2 i i0 i1
  obtain ⟨w, ew⟩ : ∃ w : Int, w = s + 27 := ⟨_, rfl⟩
  obtain ⟨t, et⟩ : ∃ t : Int, t = xfl h s 3 := ⟨_, rfl⟩
  rw [← ew] at L ⊢
  rw [← et] at t111 TX tb SN RT ⊢
  obtain ⟨w1, ⟨w2, w3⟩, ⟨w4, w5⟩, ⟨w6, w7⟩, w8⟩ := id L
  obtain ⟨Lk, ak⟩ := w8 0 (Int.le_refl _) (by decide)
  rw [show w + 4 + 4 * 0 = w + 4 by omega] at Lk ak
  refine WpM.of rfl (Wp.vc 400 [25, 27] rfl ?_)
  rw [show xfl (xputf (xputf (xputf h w 63 t) w 64 (-1)) w 65 0) w 60 = w + 1 from (by (first | assumption | ((try simp only [xcs_putf, xty_putf, xar_putf, xsz_putf, xsl_putf, xfl_putf, xcs_puta, xty_puta, xfl_puta, xsz_puta, xsl_puta, xar_puta, xcs_copy, xty_copy, xfl_copy, xsz_copy, xsl_copy, xar_copy, xcs_newo, xar_newo, xsz_newo, xsl_newo, xty_newo, xfl_newo, xcs_newa, xfl_newa, xsz_newa, xsl_newa, xty_newa, xar_newa, and_true, true_and, and_false, false_and, ite_true, ite_false, eq_self, and_self]) <;> (repeat (first | rw [if_pos (by omega)] | rw [if_neg (by omega)])) <;> (first | assumption | rfl | omega)))), show xar (xputf (xputf (xputf h w 63 t) w 64 (-1)) w 65 0) (w + 1) 0 = w + 4 from ak]
  refine ⟨isW w1 rfl, isW w1 rfl, isW w1 rfl, isF w1 rfl, isR w2 (by decide) (by decide) (by decide), ?_⟩
  obtain ⟨g, hg⟩ : ∃ g, g = xputf (xputf (xputf h w 63 t) w 64 (-1)) w 65 0 := ⟨_, rfl⟩
  have F : XFr (fun z f => z = w ∧ (f = 63 ∨ f = 64 ∨ f = 65)) (fun _ => False) h g := by
    rw [hg]
    exact (((XFr.refl h).putf (Or.inr ⟨rfl, Or.inl rfl⟩)).putf (Or.inr ⟨rfl, Or.inr (Or.inl rfl)⟩)).putf (Or.inr ⟨rfl, Or.inr (Or.inr rfl)⟩)
  have zg : xsz g = xsz h ∧ xsl g = xsl h := by rw [hg]; exact ⟨rfl, rfl⟩
  have fg : xfl g w 63 = t ∧ xfl g w 64 = -1 ∧ xfl g w 65 = 0 := by
    rw [hg]
    exact ⟨(by (first | assumption | ((try simp only [xcs_putf, xty_putf, xar_putf, xsz_putf, xsl_putf, xfl_putf, xcs_puta, xty_puta, xfl_puta, xsz_puta, xsl_puta, xar_puta, xcs_copy, xty_copy, xfl_copy, xsz_copy, xsl_copy, xar_copy, xcs_newo, xar_newo, xsz_newo, xsl_newo, xty_newo, xfl_newo, xcs_newa, xfl_newa, xsz_newa, xsl_newa, xty_newa, xar_newa, and_true, true_and, and_false, false_and, ite_true, ite_false, eq_self, and_self]) <;> (repeat (first | rw [if_pos (by omega)] | rw [if_neg (by omega)])) <;> (first | assumption | rfl | omega)))), (by (first | assumption | ((try simp only [xcs_putf, xty_putf, xar_putf, xsz_putf, xsl_putf, xfl_putf, xcs_puta, xty_puta, xfl_puta, xsz_puta, xsl_puta, xar_puta, xcs_copy, xty_copy, xfl_copy, xsz_copy, xsl_copy, xar_copy, xcs_newo, xar_newo, xsz_newo, xsl_newo, xty_newo, xfl_newo, xcs_newa, xfl_newa, xsz_newa, xsl_newa, xty_newa, xar_newa, and_true, true_and, and_false, false_and, ite_true, ite_false, eq_self, and_self]) <;> (repeat (first | rw [if_pos (by omega)] | rw [if_neg (by omega)])) <;> (first | assumption | rfl | omega)))), (by (first | assumption | ((try simp only [xcs_putf, xty_putf, xar_putf, xsz_putf, xsl_putf, xfl_putf, xcs_puta, xty_puta, xfl_puta, xsz_puta, xsl_puta, xar_puta, xcs_copy, xty_copy, xfl_copy, xsz_copy, xsl_copy, xar_copy, xcs_newo, xar_newo, xsz_newo, xsl_newo, xty_newo, xfl_newo, xcs_newa, xfl_newa, xsz_newa, xsl_newa, xty_newa, xar_newa, and_true, true_and, and_false, false_and, ite_true, ite_false, eq_self, and_self]) <;> (repeat (first | rw [if_pos (by omega)] | rw [if_neg (by omega)])) <;> (first | assumption | rfl | omega))))⟩
  rw [← hg]
  clear hg
  have Ug : XU B s n h0 g S := U.scr (F.mono (fun z f _ q => Or.inr (Or.inr ⟨by omega, by omega, by rcases q.2 with q | q | q <;> rw [q] <;> rfl⟩)) (fun _ _ q => q.elim)) zg.1 zg.2
  have Lg := Ug.l27
  obtain ⟨RTg, hvg, neg, TXg, SNg⟩ := Ug.rooms eT
  rw [← ew] at Lg
  have s3g : xfl g s 3 = t := (F.2.2.2.1 s 3 (by omega) (fun q => by omega)).trans et.symm
  rw [s3g] at RTg TXg SNg
  have Lkg : RoomsL g (w + 4) := by
    have := (Lg.2.2.2.2 0 (Int.le_refl _) (by decide)).1
    rwa [show w + 4 + 4 * 0 = w + 4 by omega] at this
  refine Wp.becK (t := t) TO Lkg Ug.r5 SNg (by omega) rfl (Nat.zero_le _) (fun h1 B1 SN1 => ?_)
  have U1 : XU B s n h0 h1 S := Ug.scr (B1.1.mono (fun z f _ q => Or.inr (Or.inr ⟨by omega, by omega, by rcases q.2 with q | q <;> rw [q] <;> rfl⟩)) (fun z _ q => Or.inr (Or.inl ⟨by omega, by omega, by omega⟩))) B1.2.1 B1.2.2
  have L1 := U1.l27
  rw [← ew] at L1
  obtain ⟨-, -, -, TX1, -⟩ := U1.rooms eT
  have s31 : xfl h1 s 3 = t := (B1.1.2.2.2.1 s 3 (by have := zg.1; omega) (fun q => by omega)).trans s3g
  rw [s31] at TX1
  have C1 : ECtx h1 B w t (tnh T) := ⟨⟨by omega, by have := U1.bnd; omega⟩, L1, (B1.1.2.2.2.1 w 63 (by have := zg.1; omega) (fun q => by omega)).trans fg.1, ⟨TX1.1.1, TX1.1.2.1, TX1.1.2.2, TX1.2.2.1.2.2.1⟩, by omega, by omega⟩
  have A1 : AccE h1 w (exA (tnh T) (sV S) 0) := ⟨⟨(B1.1.2.2.2.1 w 64 (by have := zg.1; omega) (fun q => by omega)).trans fg.2.1, Int.le_refl _, show (-1 : Int) ≤ 7 by decide⟩, ⟨(B1.1.2.2.2.1 w 65 (by have := zg.1; omega) (fun q => by omega)).trans fg.2.2, Nat.zero_le _⟩, fun j hj => absurd hj (by show ¬ j < 0; omega)⟩
  have loop : ∀ (N : Int) (h2 : XH), N ≤ 4 → (0 ≤ N ∧ XU B s n h0 h2 S ∧ ECtx h2 B w t (tnh T) ∧ ((∀ i : Int, 0 ≤ i → i < tnh T → xar h2 (w + 4 + 1) i = sV S i) ∧ xfl h2 (w + 4) 43 = t) ∧ AccE h2 w (exA (tnh T) (sV S) N)) → Wp (d + 10) 135 27 [some (.inr (.inr w)), some (.inr (.inr t)), some (.inr (.inr (s + 5))), some (.inl N)] [] h2 (fun o h' => ∃ v, o = .inl v ∧ v = none ∧ XU B s n h0 h' S ∧ AccE h' w (exA (tnh T) (sV S) 4)) := by
    refine loopUp (G := fun N h2 => Wp (d + 10) 135 27 [some (.inr (.inr w)), some (.inr (.inr t)), some (.inr (.inr (s + 5))), some (.inl N)] [] h2 (fun o h' => ∃ v, o = .inl v ∧ v = none ∧ XU B s n h0 h' S ∧ AccE h' w (exA (tnh T) (sV S) 4))) 4 ?_ ?_
    · rintro N h2 ⟨N0, U2, C2, ⟨r2, f2⟩, A2⟩ hN ih
      have et := x_etries (B := B) (e := w) (t := t) (n := tnh T) (N := N) ⟨N0, by omega⟩ N.toNat (d + 9) h2 [] (sV S) _ (by omega) (by show (0 : Int) + _ = N; omega) C2 RO (by
        show ∀ i : Int, 0 ≤ i → i < tnh T → xar h2 (w + 4 + 4 * 0 + 1) i = sV S i
        rw [show w + 4 + 4 * 0 + 1 = w + 4 + 1 by omega]
        exact r2) (by
        show xfl h2 (w + 4 + 4 * 0) 43 = t
        rw [show w + 4 + 4 * 0 = w + 4 by omega]
        exact f2) (fun j hj => absurd hj (by show ¬ j < 0; omega)) A2
      refine Wp.vc 400 [27] rfl ?_
      refine ⟨fun c => absurd c (by omega), fun _ => ?_⟩
      refine Wp.callR (j := 0) rfl (Nat.le_of_ble_eq_true rfl) ⟨true, C2.2.1.1⟩ et (fun v h3 q => ?_)
      obtain ⟨rfl, q1, q2, -⟩ := q
      rw [exP_nil, ← exA_st N0] at q2
      have q1 : FrE w 0 h2 h3 := q1
      have hz := C2.1
      refine Wp.vc 400 [27] rfl ?_
      refine ⟨by omega, ih h3 ⟨by omega, U2.scr (q1.1.mono (fun z f _ q => Or.inr (Or.inr ⟨by omega, by omega, ?_⟩)) (fun z _ q => Or.inr (Or.inl ⟨by omega, by omega, by omega⟩))) q1.2.1 q1.2.2, C2.keep (by decide) q1, ⟨fun i i0 i1 => (q1.1.2.2.2.2 _ i (by omega) (fun q => by omega)).trans (r2 i i0 i1), (q1.1.2.2.2.1 _ 43 (by omega) (fun q => by omega)).trans f2⟩, q2⟩⟩
      rcases q with q | q
      · rcases q.2 with q | q <;> rw [q] <;> rfl
      · rcases q.2.2 with q | q <;> rw [q] <;> rfl
    · rintro h2 ⟨N0, U2, C2, ⟨r2, f2⟩, A2⟩
      refine Wp.vc 400 [] rfl ?_
      exact ⟨fun _ => ⟨trivial, none, rfl, rfl, U2, A2⟩, fun c => absurd (by decide) c⟩
  refine Wp.vc 400 [27] rfl ?_
  exact loop 0 h1 (by decide) ⟨Int.le_refl _, U1, C1, ⟨SN1.2.1, SN1.1⟩, A1⟩
theorem x_opPaired {d : Nat} {h : XH} {B s n : Int} {S : XSt} (R : Rx h B s S) (O : SOK n S) : WpM (d + 11) 43 [.inr (.inr s)] h (XAn B s h (.inl (opPaired S).1) (opPaired S).2) := by
  refine WpM.of rfl (Wp.vc 400 [] rfl ?_)
  refine XU.anew R O rfl (Nat.zero_le _) (fun h1 U => ?_)
  have ts := U.ts
  cases e : sT S with
  | none =>
    rw [show opPaired S = _ from onT_no e]
    refine Wp.vc 400 [] rfl ?_
    rw [U.noT e]
    refine ⟨isF ts rfl, fun w => absurd rfl w, fun _ => ?_⟩
    exact U.no (k := 1) (by decide) rfl (fun _ => rfl) rfl
  | some T =>
    rw [show opPaired S = _ from onT_yes e]
    obtain ⟨-, -, ne, -⟩ := U.rooms e
    refine Wp.vc 400 [] rfl ?_
    rw [U.f16, U.f9]
    refine ⟨isF ts rfl, fun _ => ⟨isF ts rfl, isF ts rfl, isF ts rfl, ?_⟩, fun w => absurd ne w⟩
    refine U.exK e rfl (Nat.zero_le _) (fun h2 U2 A2 => ?_)
    refine Wp.vc 400 [] rfl ?_
    rw [U2.f16, A2.1.1]
    exact ⟨isF U2.ts rfl, isF U2.l27.1 rfl, trivial, U2.ret⟩
theorem x_opFewest {d : Nat} {h : XH} {B s n : Int} {S : XSt} (R : Rx h B s S) (O : SOK n S) : WpM (d + 11) 45 [.inr (.inr s)] h (XAn B s h (.inl (opFewest S).1) (opFewest S).2) := by
  refine WpM.of rfl (Wp.vc 400 [] rfl ?_)
  refine XU.anew R O rfl (Nat.zero_le _) (fun h1 U => ?_)
  have ts := U.ts
  cases e : sT S with
  | none =>
    rw [show opFewest S = _ from onT_no e]
    refine Wp.vc 400 [] rfl ?_
    rw [U.noT e]
    refine ⟨isF ts rfl, fun w => absurd rfl w, fun _ => ?_⟩
    exact U.no (k := 1) (by decide) rfl (fun _ => rfl) rfl
  | some T =>
    rw [show opFewest S = _ from onT_yes e]
    obtain ⟨-, -, ne, -⟩ := U.rooms e
    refine Wp.vc 400 [] rfl ?_
    rw [U.f16, U.f9]
    refine ⟨isF ts rfl, fun _ => ⟨isF ts rfl, isF ts rfl, isF ts rfl, ?_⟩, fun w => absurd ne w⟩
    refine U.exK e rfl (Nat.zero_le _) (fun h2 U2 A2 => ?_)
    refine Wp.vc 400 [] rfl ?_
    rw [U2.f16, A2.2.1.1]
    exact ⟨isF U2.ts rfl, isF U2.l27.1 rfl, trivial, U2.ret⟩
theorem x_opExchangeAt {d : Nat} {h : XH} {B s n i : Int} {S : XSt} (R : Rx h B s S) (O : SOK n S) : WpM (d + 11) 46 [.inr (.inr s), .inl i] h (XAn B s h (.inl (opExchangeAt S i).1) (opExchangeAt S i).2) := by
  refine WpM.of rfl (Wp.vc 400 [] rfl ?_)
  refine XU.anew R O rfl (Nat.zero_le _) (fun h1 U => ?_)
  have ts := U.ts
  cases e : sT S with
  | none =>
    rw [show opExchangeAt S i = _ from onT_no e]
    refine Wp.vc 400 [] rfl ?_
    rw [U.noT e]
    refine ⟨isF ts rfl, fun w => absurd rfl w, fun _ => ?_⟩
    exact U.no (k := 1) (by decide) rfl (fun _ => rfl) rfl
  | some T =>
    rw [show opExchangeAt S i = _ from onT_yes e]
    obtain ⟨-, -, ne, -⟩ := U.rooms e
    refine Wp.vc 400 [] rfl ?_
    rw [U.f16, U.f9]
    refine ⟨isF ts rfl, fun _ => ⟨isF ts rfl, isF ts rfl, isF ts rfl, ?_⟩, fun w => absurd ne w⟩
    refine U.exK e rfl (Nat.zero_le _) (fun h2 U2 A2 => ?_)
    have A2 : AccE h2 (s + 27) (exA (tnh T) (sV S) 4) := A2
    have L2 := U2.l27
    obtain ⟨⟨a1, a2, a3⟩, ⟨a4, a5⟩, a6⟩ := A2
    refine Wp.vc 400 [] rfl ?_
    rw [U2.f16, a4]
    refine ⟨isF U2.ts rfl, isF L2.1 rfl, by omega, ?_⟩
    refine Wp.callE (j := 0) rfl (Nat.le_of_ble_eq_true rfl) trivial (x_in i 0 _) ?_
    by_cases c : 0 ≤ i ∧ i < ((exA (tnh T) (sV S) 4).2.length : Int)
    · rw [if_pos ⟨c.1, by omega⟩, if_pos c]
      have a6 := a6 i.toNat (by omega)
      rw [Int.toNat_of_nonneg c.1] at a6
      have cd : WpM (d + 10) 137 [.inr (.inr (s + 27)), .inl i] h2 (XE (some (.inl (xc10 ((exA (tnh T) (sV S) 4).2.getD i.toNat 0)))) h2) := by
        refine WpM.of rfl (Wp.vc 400 [] rfl ?_)
        rw [L2.2.2.2.1.2, a6]
        exact ⟨isF L2.1 rfl, isA L2.2.2.2.1.1 c.1 (by omega), trivial, rfl, rfl⟩
      refine Wp.vc 400 [] rfl ?_
      rw [U2.f16]
      refine ⟨fun c => absurd c (by decide), fun _ => ⟨isF U2.ts rfl, ?_⟩⟩
      refine Wp.callE (j := 0) rfl (Nat.le_of_ble_eq_true rfl) ⟨true, L2.1⟩ cd ?_
      refine Wp.vc 400 [] rfl ?_
      exact ⟨trivial, U2.ret⟩
    · rw [if_neg (fun w => c ⟨w.1, by omega⟩), if_neg c]
      refine Wp.vc 400 [] rfl ?_
      first | refine ⟨fun _ => ?_, fun c => absurd (by decide) c⟩ | refine ⟨fun c => absurd c (by decide), fun _ => ?_⟩
      exact U2.no (k := 1) (by decide) rfl (fun _ => rfl) rfl
