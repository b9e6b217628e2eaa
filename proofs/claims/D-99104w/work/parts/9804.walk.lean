/-! WALKS, 43: whose room it is: WrongRoom's tries, seek, ops -/
set_option maxRecDepth 100000
set_option maxHeartbeats 4000000
theorem x_rtries {B w r t n : Int} {T : XTw} {V : Int → Int} : ∀ (f D : Nat) (h : XH) (i u : Int) (ρ : Int → Int) (L : List (Int → Int)), f + 6 ≤ D → i + f = tnh T → 0 ≤ i → RCtx h B w r t n T V → (0 ≤ u ∧ u < 2 ^ (tnh T).toNat) → L.length + 7 ^ f ≤ 1000000 → (∀ j : Int, i ≤ j → j < tnh T → ρ j = V j) → (∀ j : Int, 0 ≤ j → j < i → xar h (w + 1) j = ρ j ∧ 0 ≤ ρ j ∧ ρ j < tnh T) → RowsX h w (tnh T) L → WpM D 128 [.inr (.inr w), .inl i, .inl u] h (XRet fun v h' => v = none ∧ FrR w h h' ∧ RowsX h' w (tnh T) (L ++ rwf T V f i u ρ) ∧ ∀ j : Int, 0 ≤ j → j < i → xar h' (w + 1) j = ρ j) := by
  intro f
  induction f with
  | zero =>
    intro D h i u ρ L hD hi i0 C u0 hl hρ hr A
    obtain ⟨D, rfl⟩ : ∃ D', D = D' + 6 := ⟨D - 6, by omega⟩
    have hi : i = tnh T := by omega
    have w1 := C.2.1.1
    have f57 := C.2.2.1.1
    have TX := C.2.2.2.2.2.1
    have ct := TX.1.2.2
    have e111 : xfl h t 111 = tnh T := TX.2.2.1.2.2.1
    have nt := x_note (d := D + 5) (ρ := ρ) C (by simpa using hl) (fun j j0 j1 => hr j j0 (by omega)) A
    clear TX
    refine WpM.of rfl (Wp.vc 400 [16] rfl ?_)
    rw [f57, e111]
    refine ⟨isF w1 rfl, isF ct rfl, fun c => absurd hi c, fun _ => ?_⟩
    refine Wp.callR (j := 0) rfl (Nat.le_of_ble_eq_true rfl) ⟨true, w1⟩ nt (fun v h2 q => ?_)
    obtain ⟨rfl, q1, q2, q3⟩ := q
    refine Wp.vc 400 [] rfl ?_
    exact ⟨trivial, none, rfl, rfl, q1, q2, fun j j0 j1 => (q3 j).trans (hr j j0 j1).1⟩
  | succ f ih =>
    intro D h i u ρ L hD hi i0 C u0 hl hρ hr A
    obtain ⟨D, rfl⟩ : ∃ D', D = D' + 7 := ⟨D - 7, by omega⟩
    obtain ⟨w1, w2, w3, w4, w5, w6, w7, w8, w9⟩ := C.2.1
    obtain ⟨f57, f58⟩ := C.2.2.1
    have LR := C.2.2.2.1
    have SN := C.2.2.2.2.1
    have TX := C.2.2.2.2.2.1
    have TO := C.2.2.2.2.2.2.1
    have VO := C.2.2.2.2.2.2.2
    have hn := TO.2.2.1
    have ct := TX.1.2.2
    have e111 : xfl h t 111 = tnh T := TX.2.2.1.2.2.1
    have tr := LR.2.1
    have tr1 := LR.2.2.1
    have f40 := LR.2.2.2.2.2.1
    have vi := SN.2.1 i i0 (by omega)
    have bnd := C.1
    have p7 : 7 ^ f ≤ 7 ^ (f + 1) := Nat.pow_le_pow_right (by decide) (Nat.le_succ _)
    have p77 : 7 ^ (f + 1) = 7 * 7 ^ f := by rw [Nat.pow_succ]; omega
    clear SN TX
    refine WpM.of rfl (Wp.vc 400 [16] rfl ?_)
    rw [f57, e111]
    refine ⟨isF w1 rfl, isF ct rfl, fun _ => ?_, fun c => absurd (Decidable.of_not_not c) (by omega)⟩
    have put : ∀ g L' z, RCtx g B w r t n T V → FrR w h g → RowsX g w (tnh T) L' → RowsX (xputa g (w + 1) i z) w (tnh T) L' ∧ FrR w h (xputa g (w + 1) i z) ∧ RCtx (xputa g (w + 1) i z) B w r t n T V := by
      intro g L' z Cg F R
      have F1 : FrR w g (xputa g (w + 1) i z) := ⟨(XFr.refl g).puta (Or.inr ⟨by omega, by omega⟩), rfl, rfl⟩
      refine ⟨⟨R.1, fun r0 h0 j j0 j1 => ?_, fun j j0 j1 => ?_, fun j k j0 j1 k0 k1 => ?_⟩, F.trans F1, Cg.keep F1⟩
      · rw [xar_puta, if_neg (fun e => by omega)]; exact R.2.1 r0 h0 j j0 j1
      · rw [xar_puta, if_neg (fun e => by omega)]; exact R.2.2.1 j j0 j1
      · rw [xar_puta, if_neg (fun e => by omega)]; exact R.2.2.2 j k j0 j1 k0 k1
    by_cases c : V i = -2
    · rw [rwf_free c]
      have key : ∀ (k : Int) (h2 : XH), k ≤ tnh T → (0 ≤ k ∧ FrR w h h2 ∧ RowsX h2 w (tnh T) (L ++ (nds k).flatMap (rwk T V f i u ρ)) ∧ (∀ j : Int, 0 ≤ j → j < i → xar h2 (w + 1) j = ρ j)) → Wp (D + 7) 128 56 [some (.inr (.inr w)), some (.inl i), some (.inl u), some (.inl k)] [] h2 (XRet fun v h' => v = none ∧ FrR w h h' ∧ RowsX h' w (tnh T) (L ++ (nds (tnh T)).flatMap (rwk T V f i u ρ)) ∧ ∀ j : Int, 0 ≤ j → j < i → xar h' (w + 1) j = ρ j) := by
        refine loopUp (G := fun k h2 => Wp (D + 7) 128 56 [some (.inr (.inr w)), some (.inl i), some (.inl u), some (.inl k)] [] h2 (XRet fun v h' => v = none ∧ FrR w h h' ∧ RowsX h' w (tnh T) (L ++ (nds (tnh T)).flatMap (rwk T V f i u ρ)) ∧ ∀ j : Int, 0 ≤ j → j < i → xar h' (w + 1) j = ρ j)) (tnh T) ?_ ?_
        · rintro k h2 ⟨k0, F2, A2, R2⟩ hk ih2
          have C2 := C.keep F2
          obtain ⟨v1, v2, v3, v4, v5, v6, v7, v8, v9⟩ := C2.2.1
          obtain ⟨g57, g58⟩ := C2.2.2.1
          have TX2 := C2.2.2.2.2.2.1
          have ct2 := TX2.1.2.2
          have e2 : xfl h2 t 111 = tnh T := TX2.2.2.1.2.2.1
          have mb := x_mayBe (d := D + 3) TX2 TO (i := i) (j := k) ⟨i0, by omega⟩ ⟨k0, hk⟩
          have x2 := x2k (k := k) ⟨k0, by omega⟩
          have u7 := two_pow7 (n := tnh T) ⟨by omega, hn.2⟩
          have ll : (L ++ (nds k).flatMap (rwk T V f i u ρ)).length + 7 ^ f ≤ 1000000 := by
            rw [List.length_append]
            have := flat_len (K := 7 ^ f) (f := rwk T V f i u ρ) (nds k) fun g _ => by
              unfold rwk
              split
              · exact Nat.zero_le _
              · exact rwf_len hn.2 f _ _ _
            rw [nds_len] at this
            have h3 : k.toNat * 7 ^ f ≤ 6 * 7 ^ f := Nat.mul_le_mul_right _ (by omega)
            omega
          have nx : ∀ h3, FrR w h2 h3 → RowsX h3 w (tnh T) (L ++ (nds k).flatMap (rwk T V f i u ρ) ++ rwk T V f i u ρ k) → (∀ j : Int, 0 ≤ j → j < i → xar h3 (w + 1) j = ρ j) → Wp (D + 7) 128 109 [some (.inr (.inr w)), some (.inl i), some (.inl u), some (.inl k)] [] h3 (XRet fun v h' => v = none ∧ FrR w h h' ∧ RowsX h' w (tnh T) (L ++ (nds (tnh T)).flatMap (rwk T V f i u ρ)) ∧ ∀ j : Int, 0 ≤ j → j < i → xar h' (w + 1) j = ρ j) := by
            intro h3 F3 A3 R3
            refine Wp.vc 400 [56] rfl ?_
            refine ⟨by omega, ih2 h3 ⟨by omega, F2.trans F3, ?_, R3⟩⟩
            rw [nds_succ k0, List.flatMap_append, List.flatMap_singleton, ← List.append_assoc]
            exact A3
          refine Wp.vc 400 [56, 109] rfl ?_
          rw [g57, e2]
          refine ⟨isF v1 rfl, isF ct2 rfl, fun e => absurd e (by omega), fun _ => ?_⟩
          refine Wp.callE (j := 0) rfl (Nat.le_of_ble_eq_true rfl) trivial (x_has u k ⟨by omega, by omega⟩ ⟨k0, by omega⟩) ?_
          by_cases cb : xbit u k
          · rw [if_pos cb]
            refine Wp.vc 400 [56, 109] rfl ?_
            refine ⟨fun _ => nx h2 (FrR.refl _) ?_ R2, fun e => absurd (show ¬ (1 : Int) = 0 by decide) e⟩
            rw [rwk_no (Or.inl cb), List.append_nil]
            exact A2
          · rw [if_neg cb]
            refine Wp.vc 400 [56, 109] rfl ?_
            rw [g57]
            refine ⟨fun e => absurd rfl e, fun _ => ⟨isF v1 rfl, ?_⟩⟩
            refine Wp.callE (j := 0) rfl (Nat.le_of_ble_eq_true rfl) ⟨true, ct2⟩ mb ?_
            by_cases cm : mayB T i k
            · rw [xb_pos cm]
              have M : MskOK u (tnh T) (xones u) := ⟨⟨by omega, hn.2⟩, u0.1, u0.2, rfl⟩
              obtain ⟨M2, o1, -⟩ := M.add k0 hk cb
              obtain ⟨A3, F3, C3⟩ := put h2 _ k C2 F2 A2
              have kl := ih (D + 6) (xputa h2 (w + 1) i k) (i + 1) (u + 2 ^ k.toNat) (xupd ρ i k) (L ++ (nds k).flatMap (rwk T V f i u ρ)) (by omega) (by omega) (by omega) C3 ⟨M2.2.1, M2.2.2.1⟩ ll (fun j j0 j1 => by
                show (if j = i then k else ρ j) = V j
                rw [if_neg (by omega)]
                exact hρ j (by omega) j1) (fun j j0 j1 => by
                show xar (xputa h2 (w + 1) i k) (w + 1) j = (if j = i then k else ρ j) ∧ 0 ≤ (if j = i then k else ρ j) ∧ (if j = i then k else ρ j) < tnh T
                rw [xar_puta]
                by_cases e : j = i
                · rw [if_pos ⟨rfl, e⟩, if_pos e]
                  exact ⟨rfl, k0, hk⟩
                · rw [if_neg (fun q => e q.2), if_neg e, R2 j j0 (by omega)]
                  exact ⟨rfl, (hr j j0 (by omega)).2⟩) A3
              refine Wp.vc 400 [56, 109] rfl ?_
              rw [v6, o1]
              refine ⟨fun _ => ⟨isF v1 rfl, isB v2 i0 (by omega), by omega, ⟨k0, by omega, x2.1, x2.2⟩, ?_⟩, fun e => absurd (show ¬ (1 : Int) = 0 by decide) e⟩
              refine Wp.callR (j := 0) rfl (Nat.le_of_ble_eq_true rfl) ⟨true, v1⟩ kl (fun v h4 q => ?_)
              obtain ⟨rfl, q1, q2, q3⟩ := q
              refine nx h4 (FrR.trans ⟨(XFr.refl h2).puta (Or.inr ⟨by omega, by omega⟩), rfl, rfl⟩ q1) ?_ (fun j j0 j1 => ?_)
              · rw [rwk_yes cb cm]
                exact q2
              · rw [q3 j j0 (by omega)]
                exact if_neg (by omega)
            · rw [xb_neg cm]
              refine Wp.vc 400 [56, 109] rfl ?_
              refine ⟨fun e => absurd rfl e, fun _ => nx h2 (FrR.refl _) ?_ R2⟩
              rw [rwk_no (Or.inr cm), List.append_nil]
              exact A2
        · rintro h2 ⟨k0, F2, A2, R2⟩
          have C2 := C.keep F2
          obtain ⟨g57, g58⟩ := C2.2.2.1
          have TX2 := C2.2.2.2.2.2.1
          have ct2 := TX2.1.2.2
          have e2 : xfl h2 t 111 = tnh T := TX2.2.2.1.2.2.1
          have v1 := C2.2.1.1
          refine Wp.vc 400 [67] rfl ?_
          rw [g57, e2]
          exact ⟨isF v1 rfl, isF ct2 rfl, fun _ => ⟨trivial, none, rfl, rfl, F2, A2, R2⟩, fun e => absurd (Int.le_refl _) e⟩
      refine Wp.vc 400 [56] rfl ?_
      rw [f58, f40, vi]
      refine ⟨isF w1 rfl, isF tr rfl, isA tr1 i0 (by omega), fun _ => key 0 h (by omega) ⟨Int.le_refl _, FrR.refl _, ?_, fun j j0 j1 => (hr j j0 j1).1⟩, fun e => absurd c e⟩
      show RowsX h w (tnh T) (L ++ [])
      rw [List.append_nil]
      exact A
    · rw [rwf_known c]
      have vr := (VO.1 i i0 (by omega)).resolve_left c
      obtain ⟨A3, F3, C3⟩ := put h _ (V i) C (FrR.refl _) A
      have kl := ih (D + 6) (xputa h (w + 1) i (V i)) (i + 1) u ρ L (by omega) (by omega) (by omega) C3 u0 (by omega) (fun j j0 j1 => hρ j (by omega) j1) (fun j j0 j1 => by
        rw [xar_puta]
        by_cases e : j = i
        · rw [if_pos ⟨rfl, e⟩, e, hρ i (Int.le_refl _) (by omega)]
          exact ⟨rfl, vr.1, vr.2.1⟩
        · rw [if_neg (fun q => e q.2)]
          exact hr j j0 (by omega)) A3
      refine Wp.vc 400 [56] rfl ?_
      rw [f58, f40, vi, w6]
      refine ⟨isF w1 rfl, isF tr rfl, isA tr1 i0 (by omega), fun e => absurd e c, fun _ => ⟨isF w1 rfl, isF w1 rfl, isF tr rfl, isA tr1 i0 (by omega), isB w2 i0 (by omega), by omega, ?_⟩⟩
      refine Wp.callR (j := 0) rfl (Nat.le_of_ble_eq_true rfl) ⟨true, w1⟩ kl (fun v h4 q => ?_)
      obtain ⟨rfl, q1, q2, q3⟩ := q
      refine Wp.vc 400 [] rfl ?_
      exact ⟨trivial, none, rfl, rfl, F3.trans q1, q2, fun j j0 j1 => q3 j j0 (by omega)⟩
/-- who is known to have a room, of the first k -/
def useS (V : Int → Int) (n k : Int) : Int := xset_ (fun g => decide (xlender V k g ≠ -2)) n.toNat
theorem xlender_ex {V : Int → Int} {k g : Int} (k0 : 0 ≤ k) : xlender V k g ≠ -2 ↔ ∃ j : Int, 0 ≤ j ∧ j < k ∧ V j = g := by
  unfold xlender
  rcases xfst_spec (p := fun h => decide (V h = g)) k.toNat 0 with ⟨q1, q2⟩ | ⟨q1, q2, q3, q4⟩
  · constructor
    · intro w; exact absurd q1 w
    · rintro ⟨j, j0, j1, e⟩
      have := q2 j j0 (by omega)
      simp [e] at this
  · constructor
    · intro _
      exact ⟨_, q1, by omega, by simpa using q3⟩
    · intro _ w
      omega
theorem useS_rg {V : Int → Int} {n k : Int} : 0 ≤ useS V n k ∧ useS V n k < 2 ^ n.toNat := xset_rg _ _
theorem useS_bit {V : Int → Int} {n k g : Int} (n0 : 0 ≤ n ∧ n ≤ 7) (k0 : 0 ≤ k) (g0 : 0 ≤ g ∧ g < n) : xbit (useS V n k) g ↔ ∃ j : Int, 0 ≤ j ∧ j < k ∧ V j = g := by
  unfold useS
  rw [xset_bit n.toNat (by omega) g g0.1 (by omega), ← xlender_ex k0]
  simp
theorem useS_free {V : Int → Int} {n k : Int} (k0 : 0 ≤ k) (h : V k = -2) : useS V n (k + 1) = useS V n k := by
  refine xset_congr _ fun g hg => ?_
  have : xlender V (k + 1) (g : Int) ≠ -2 ↔ xlender V k (g : Int) ≠ -2 := by
    rw [xlender_ex (by omega), xlender_ex k0]
    constructor
    · rintro ⟨j, j0, j1, e⟩
      refine ⟨j, j0, ?_, e⟩
      by_cases c : j = k
      · rw [c, h] at e; omega
      · omega
    · rintro ⟨j, j0, j1, e⟩
      exact ⟨j, j0, by omega, e⟩
  simp only [this]
theorem useS_add {V : Int → Int} {n k : Int} (n0 : 0 ≤ n ∧ n ≤ 7) (k0 : 0 ≤ k) (h : 0 ≤ V k ∧ V k < n) (inj : ∀ j : Int, 0 ≤ j → j < k → V j ≠ V k) : xor_ (useS V n k) (1 * 2 ^ (V k).toNat) = useS V n (k + 1) := by
  have nb : ¬ xbit (useS V n k) (V k) := by
    rw [useS_bit n0 k0 h]
    rintro ⟨j, j0, j1, e⟩
    exact inj j j0 j1 e
  have M : MskOK (useS V n k) n (xones (useS V n k)) := ⟨n0, useS_rg.1, useS_rg.2, rfl⟩
  rw [(M.add h.1 h.2 nb).2.1]
  refine (xset_ins (p := fun g => decide (xlender V k g ≠ -2)) (q := fun g => decide (xlender V (k + 1) g ≠ -2)) h.1 ?_ ?_ (fun g hg => ?_) n.toNat (by omega)).symm
  · have : ¬ xlender V k (V k) ≠ -2 := by
      rw [xlender_ex k0]
      rintro ⟨j, j0, j1, e⟩
      exact inj j j0 j1 e
    simpa using this
  · have : xlender V (k + 1) (V k) ≠ -2 := by
      rw [xlender_ex (by omega)]
      exact ⟨k, k0, by omega, rfl⟩
    simpa using this
  · have : xlender V (k + 1) g ≠ -2 ↔ xlender V k g ≠ -2 := by
      rw [xlender_ex (by omega), xlender_ex k0]
      constructor
      · rintro ⟨j, j0, j1, e⟩
        refine ⟨j, j0, ?_, e⟩
        by_cases c : j = k
        · rw [c] at e; exact absurd e.symm hg
        · omega
      · rintro ⟨j, j0, j1, e⟩
        exact ⟨j, j0, by omega, e⟩
    simp only [this]
noncomputable def fitL (T : XTw) (V : Int → Int) : List (Int → Int) := rwf T V (tnh T).toNat 0 (useS V (tnh T) 7) V
theorem fitL_len {T : XTw} {V : Int → Int} (TO : TOK T) : (fitL T V).length ≤ 823543 := by
  have := rwf_len (V := V) TO.2.2.1.2 (tnh T).toNat 0 (useS V (tnh T) 7) V
  have h2 : 7 ^ (tnh T).toNat ≤ 7 ^ 7 := Nat.pow_le_pow_right (by decide) (by have := TO.2.2.1; omega)
  unfold fitL
  omega
theorem XU.rowsK {d M pc np : Nat} {ls : XL} {st rest : XS} {B s n : Int} {h0 h : XH} {S : XSt} {T : XTw} {Q : XO → XH → Prop} (U : XU B s n h0 h S) (eT : sT S = some T) (e : xstK M pc 0 st = some (np, some 7, 127, [.inr (.inr (s + 22)), .inr (.inr (xfl h s 3)), .inr (.inr (s + 5))], rest)) (hw : xwords rest ≤ 8) (k : ∀ h1, XU B s n h0 h1 S → RCtx h1 B (s + 22) (s + 5) (xfl h1 s 3) n T (sV S) → RowsX h1 (s + 22) (tnh T) (fitL T (sV S)) → Wp (d + 16) M np ls rest h1 Q) : Wp (d + 16) M pc ls st h Q := by
  have L22 := U.lay.2.2.2.2.2.2.2.2.2.2.1.2
  refine Wp.callR e hw ⟨true, L22.1⟩ (Q1 := fun v h' => v = none ∧ XU B s n h0 h' S ∧ RCtx h' B (s + 22) (s + 5) (xfl h' s 3) n T (sV S) ∧ RowsX h' (s + 22) (tnh T) (fitL T (sV S))) ?_ (fun v h1 q => by
    obtain ⟨rfl, q1, q2, q3⟩ := q
    exact k h1 q1 q2 q3)
  obtain ⟨RT, hv, ne, TX, SN⟩ := U.rooms eT
  obtain ⟨TO, VO⟩ := U.ok eT
  have hn := TO.2.2.1
  have bnd := U.bnd
  have tbn := TX.1.1
  have tbs := TX.1.2.1
  obtain ⟨w1, w2, w3, w4, w5, w6, w7, w8, w9⟩ := L22
  obtain ⟨w, ew⟩ : ∃ w : Int, w = s + 22 := ⟨_, rfl⟩
  obtain ⟨t, et⟩ : ∃ t : Int, t = xfl h s 3 := ⟨_, rfl⟩
  rw [← ew] at w1 w2 w3 w4 w5 w6 w7 w8 w9 ⊢
  rw [← et] at TX SN tbn tbs ⊢
  refine WpM.of rfl (Wp.vc 400 [17] rfl ?_)
  refine ⟨isW w1 rfl, isW w1 rfl, isW w1 rfl, ?_⟩
  obtain ⟨g, hg⟩ : ∃ g, g = xputf (xputf (xputf h w 57 t) w 58 (s + 5)) w 59 0 := ⟨_, rfl⟩
  have F : XFr (fun z f => z = w ∧ xfin f = false) (fun z => w + 1 ≤ z ∧ z ≤ w + 4) h g := by
    rw [hg]
    exact (((XFr.refl h).putf (Or.inr ⟨rfl, rfl⟩)).putf (Or.inr ⟨rfl, rfl⟩)).putf (Or.inr ⟨rfl, rfl⟩)
  have zg : xsz g = xsz h ∧ xsl g = xsl h := by rw [hg]; exact ⟨rfl, rfl⟩
  have fg : xfl g w 57 = t ∧ xfl g w 58 = s + 5 ∧ xfl g w 59 = 0 := by
    rw [hg]
    exact ⟨(by (first | assumption | ((try simp only [xcs_putf, xty_putf, xar_putf, xsz_putf, xsl_putf, xfl_putf, xcs_puta, xty_puta, xfl_puta, xsz_puta, xsl_puta, xar_puta, xcs_copy, xty_copy, xfl_copy, xsz_copy, xsl_copy, xar_copy, xcs_newo, xar_newo, xsz_newo, xsl_newo, xty_newo, xfl_newo, xcs_newa, xfl_newa, xsz_newa, xsl_newa, xty_newa, xar_newa, and_true, true_and, and_false, false_and, ite_true, ite_false, eq_self, and_self]) <;> (repeat (first | rw [if_pos (by omega)] | rw [if_neg (by omega)])) <;> (first | assumption | rfl | omega)))), (by (first | assumption | ((try simp only [xcs_putf, xty_putf, xar_putf, xsz_putf, xsl_putf, xfl_putf, xcs_puta, xty_puta, xfl_puta, xsz_puta, xsl_puta, xar_puta, xcs_copy, xty_copy, xfl_copy, xsz_copy, xsl_copy, xar_copy, xcs_newo, xar_newo, xsz_newo, xsl_newo, xty_newo, xfl_newo, xcs_newa, xfl_newa, xsz_newa, xsl_newa, xty_newa, xar_newa, and_true, true_and, and_false, false_and, ite_true, ite_false, eq_self, and_self]) <;> (repeat (first | rw [if_pos (by omega)] | rw [if_neg (by omega)])) <;> (first | assumption | rfl | omega)))), (by (first | assumption | ((try simp only [xcs_putf, xty_putf, xar_putf, xsz_putf, xsl_putf, xfl_putf, xcs_puta, xty_puta, xfl_puta, xsz_puta, xsl_puta, xar_puta, xcs_copy, xty_copy, xfl_copy, xsz_copy, xsl_copy, xar_copy, xcs_newo, xar_newo, xsz_newo, xsl_newo, xty_newo, xfl_newo, xcs_newa, xfl_newa, xsz_newa, xsl_newa, xty_newa, xar_newa, and_true, true_and, and_false, false_and, ite_true, ite_false, eq_self, and_self]) <;> (repeat (first | rw [if_pos (by omega)] | rw [if_neg (by omega)])) <;> (first | assumption | rfl | omega))))⟩
  rw [← hg]
  clear hg
  -- the second loop
  have loop2 : ∀ (k : Int) (h2 : XH), k ≤ 7 → (0 ≤ k ∧ XFr (fun _ _ => False) (fun z => w + 1 ≤ z ∧ z ≤ w + 4) g h2 ∧ xsz h2 = xsz h ∧ xsl h2 = xsl h ∧ (∀ i : Int, 0 ≤ i → i < 49 → xar h2 (w + 4) i = 0) ∧ ∀ i : Int, 0 ≤ i → i < k → xar h2 (w + 3) i = 0) → Wp (d + 15) 127 41 [some (.inr (.inr w)), some (.inr (.inr t)), some (.inr (.inr (s + 5))), some (.inl (useS (sV S) (tnh T) k)), some (.inl k)] [] h2 (fun o h' => ∃ v, o = .inl v ∧ v = none ∧ XU B s n h0 h' S ∧ RCtx h' B w (s + 5) (xfl h' s 3) n T (sV S) ∧ RowsX h' w (tnh T) (fitL T (sV S))) := by
    refine loopUp (G := fun k h2 => Wp (d + 15) 127 41 [some (.inr (.inr w)), some (.inr (.inr t)), some (.inr (.inr (s + 5))), some (.inl (useS (sV S) (tnh T) k)), some (.inl k)] [] h2 (fun o h' => ∃ v, o = .inl v ∧ v = none ∧ XU B s n h0 h' S ∧ RCtx h' B w (s + 5) (xfl h' s 3) n T (sV S) ∧ RowsX h' w (tnh T) (fitL T (sV S)))) 7 ?_ ?_
    · rintro k h2 ⟨k0, p, z1, z2, i4, i3⟩ hk ih
      have ty : ∀ x, x < xsz h → xty h2 x = xty h x := fun x hx => (p.2.2.1 x (by omega)).trans (F.2.2.1 x hx)
      have t0 := (ty w (by omega)).trans w1
      have t3 := (ty (w + 3) (by omega)).trans w4
      have tt := (ty t tbs).trans TX.1.2.2
      have f55 : xfl h2 w 55 = w + 3 := ((p.2.2.2.1 w 55 (by omega) (fun e => e)).trans (F.2.2.2.1 w 55 (by omega) (fun e => by cases e.2))).trans w8
      have ft : xfl h2 t 111 = tnh T := ((p.2.2.2.1 t 111 (by omega) (fun e => e)).trans (F.2.2.2.1 t 111 (by omega) (fun e => by omega))).trans TX.2.2.1.2.2.1
      have tr := (ty (s + 5) (by omega)).trans RT.1.2.1
      have tr1 := (ty (s + 5 + 1) (by omega)).trans RT.1.2.2.1
      have f40 : xfl h2 (s + 5) 40 = s + 5 + 1 := ((p.2.2.2.1 (s + 5) 40 (by omega) (fun e => e)).trans (F.2.2.2.1 (s + 5) 40 (by omega) (fun e => by omega))).trans RT.1.2.2.2.2.2.1
      have rw1 : ∀ i : Int, 0 ≤ i → i < tnh T → xar h2 (s + 5 + 1) i = sV S i := fun i i0 i1 => ((p.2.2.2.2 (s + 5 + 1) i (by omega) (fun e => by omega)).trans (F.2.2.2.2 (s + 5 + 1) i (by omega) (fun e => by omega))).trans (hv i i0 i1)
      have nx : ∀ v, v = useS (sV S) (tnh T) (k + 1) → Wp (d + 15) 127 89 [some (.inr (.inr w)), some (.inr (.inr t)), some (.inr (.inr (s + 5))), some (.inl v), some (.inl k)] [] (xputa h2 (w + 3) k 0) (fun o h' => ∃ v, o = .inl v ∧ v = none ∧ XU B s n h0 h' S ∧ RCtx h' B w (s + 5) (xfl h' s 3) n T (sV S) ∧ RowsX h' w (tnh T) (fitL T (sV S))) := by
        intro v hv
        subst hv
        refine Wp.vc 400 [41] rfl ?_
        refine ⟨by omega, ih _ ⟨by omega, p.puta (Or.inr ⟨by omega, by omega⟩), z1, z2, fun i i0 i1 => ?_, fun i i0 i1 => ?_⟩⟩
        · rw [xar_puta, if_neg (fun e => by omega)]; exact i4 i i0 i1
        · rw [xar_puta]
          by_cases e : i = k
          · rw [if_pos ⟨rfl, e⟩]
          · rw [if_neg (fun q => e q.2)]; exact i3 i i0 (by omega)
      refine Wp.vc 400 [41, 89] rfl ?_
      rw [f55, show xfl (xputa h2 (w + 3) k 0) t 111 = tnh T from ft, show xfl (xputa h2 (w + 3) k 0) (s + 5) 40 = s + 5 + 1 from f40]
      refine ⟨fun e => absurd e (by omega), fun _ => ⟨isF t0 rfl, isB t3 k0 hk, isF tt rfl, fun e => nx _ ?_, fun e => ⟨isF tr rfl, isA tr1 k0 hk, ?_⟩⟩⟩
      · exact (useS_free k0 (VO.2.2.1 k e hk)).symm
      · have e : ¬ tnh T ≤ k := e
        have a1 : xar (xputa h2 (w + 3) k 0) (s + 5 + 1) k = sV S k := by rw [xar_puta, if_neg (fun e => by omega)]; exact rw1 k k0 (by omega)
        rw [a1]
        refine ⟨fun c => nx _ (useS_free k0 c).symm, fun c => ?_⟩
        have vr := (VO.1 k k0 (by omega)).resolve_left c
        have x2 := x2k (k := sV S k) ⟨vr.1, by omega⟩
        refine ⟨isF tr rfl, isA tr1 k0 hk, ⟨vr.1, by omega, x2.1, x2.2⟩, nx _ ?_⟩
        exact useS_add ⟨by omega, hn.2⟩ k0 ⟨vr.1, vr.2.1⟩ (fun j j0 j1 q => by
          have := VO.2.1 j k j0 (by omega) k0 (by omega) q (by rw [q]; exact c)
          omega)
    · rintro h2 ⟨k0, p, z1, z2, i4, i3⟩
      have F2 : XFr (fun z f => z = w ∧ xfin f = false) (fun z => w + 1 ≤ z ∧ z ≤ w + 4) h h2 := F.trans p (fun _ _ _ e => e.elim) (fun _ _ e => e)
      have U2 : XU B s n h0 h2 S := U.scr (F2.mono (fun z f _ e => Or.inr (Or.inr ⟨by omega, by omega, e.2⟩)) (fun z _ e => Or.inr (Or.inl ⟨by omega, by omega, by omega⟩))) z1 z2
      obtain ⟨RT2, hv2, ne2, TX2, SN2⟩ := U2.rooms eT
      have t3 : xfl h2 s 3 = t := (F2.2.2.2.1 s 3 (by omega) (fun e => by omega)).trans et.symm
      rw [t3] at TX2 SN2
      have L2 := U2.lay.2.2.2.2.2.2.2.2.2.2.1.2
      rw [← ew] at L2
      have fl : ∀ f, xfl h2 w f = xfl g w f := fun f => p.2.2.2.1 w f (by omega) (fun e => e)
      have C2 : RCtx h2 B w (s + 5) t n T (sV S) := ⟨⟨by omega, by omega, by omega⟩, L2, ⟨(fl 57).trans fg.1, (fl 58).trans fg.2.1⟩, U2.r5, SN2, TX2, TO, VO⟩
      have A2 : RowsX h2 w (tnh T) [] := by
        refine ⟨(fl 59).trans fg.2.2, fun r0 e => (by cases e), fun i i0 i1 => ?_, fun i j i0 i1 j0 j1 => i4 _ (by omega) (by omega)⟩
        rw [i3 i i0 (by omega)]
        have : ∀ m : Nat, xset_ (fun _ => decide (0 < cntL [] i 0)) m = 0 := by
          intro m
          induction m with
          | zero => rfl
          | succ m ih => show xset_ _ m + (if _ then _ else 0) = 0; rw [ih, if_neg (by simp [cntL])]; rfl
        exact (this _).symm
      have kl := x_rtries (tnh T).toNat (d + 14) h2 0 (useS (sV S) (tnh T) 7) (sV S) [] (by omega) (by omega) (Int.le_refl _) C2 useS_rg (by
        have h2 : 7 ^ (tnh T).toNat ≤ 7 ^ 7 := Nat.pow_le_pow_right (by decide) (by omega)
        show 0 + 7 ^ (tnh T).toNat ≤ 1000000
        omega) (fun j _ _ => rfl) (fun j j0 j1 => by omega) A2
      have v1 := L2.1
      refine Wp.vc 400 [48] rfl ?_
      refine ⟨fun _ => ?_, fun e => absurd (Int.le_refl _) e⟩
      refine Wp.callR (j := 0) rfl (Nat.le_of_ble_eq_true rfl) ⟨true, v1⟩ kl (fun v h3 q => ?_)
      obtain ⟨rfl, q1, q2, -⟩ := q
      have U3 : XU B s n h0 h3 S := U2.scr (q1.1.mono (fun z f _ e => Or.inr (Or.inr ⟨by omega, by omega, by rw [e.2]; rfl⟩)) (fun z _ e => Or.inr (Or.inl ⟨by omega, by omega, by omega⟩))) q1.2.1 q1.2.2
      have t33 : xfl h3 s 3 = t := (q1.1.2.2.2.1 s 3 (by omega) (fun e => by omega)).trans t3
      refine Wp.vc 400 [] rfl ?_
      refine ⟨trivial, none, rfl, rfl, U3, ?_, q2⟩
      rw [t33]
      exact C2.keep q1
  -- the first loop
  have loop1 : ∀ (k : Int) (h2 : XH), k ≤ 49 → (0 ≤ k ∧ XFr (fun _ _ => False) (fun z => w + 1 ≤ z ∧ z ≤ w + 4) g h2 ∧ xsz h2 = xsz h ∧ xsl h2 = xsl h ∧ ∀ i : Int, 0 ≤ i → i < k → xar h2 (w + 4) i = 0) → Wp (d + 15) 127 17 [some (.inr (.inr w)), some (.inr (.inr t)), some (.inr (.inr (s + 5))), some (.inl k), none] [] h2 (fun o h' => ∃ v, o = .inl v ∧ v = none ∧ XU B s n h0 h' S ∧ RCtx h' B w (s + 5) (xfl h' s 3) n T (sV S) ∧ RowsX h' w (tnh T) (fitL T (sV S))) := by
    refine loopUp (G := fun k h2 => Wp (d + 15) 127 17 [some (.inr (.inr w)), some (.inr (.inr t)), some (.inr (.inr (s + 5))), some (.inl k), none] [] h2 (fun o h' => ∃ v, o = .inl v ∧ v = none ∧ XU B s n h0 h' S ∧ RCtx h' B w (s + 5) (xfl h' s 3) n T (sV S) ∧ RowsX h' w (tnh T) (fitL T (sV S)))) 49 ?_ ?_
    · rintro k h2 ⟨k0, p, z1, z2, i4⟩ hk ih
      have ty : ∀ x, x < xsz h → xty h2 x = xty h x := fun x hx => (p.2.2.1 x (by omega)).trans (F.2.2.1 x hx)
      have t0 := (ty w (by omega)).trans w1
      have t4 := (ty (w + 4) (by omega)).trans w5
      have f56 : xfl h2 w 56 = w + 4 := ((p.2.2.2.1 w 56 (by omega) (fun e => e)).trans (F.2.2.2.1 w 56 (by omega) (fun e => by cases e.2))).trans w9
      refine Wp.vc 400 [17, 36] rfl ?_
      rw [f56]
      refine ⟨fun e => absurd e (by omega), fun _ => ⟨isF t0 rfl, isB t4 k0 hk, by omega, ih _ ⟨by omega, p.puta (Or.inr ⟨by omega, by omega⟩), z1, z2, fun i i0 i1 => ?_⟩⟩⟩
      rw [xar_puta]
      by_cases e : i = k
      · rw [if_pos ⟨rfl, e⟩]
      · rw [if_neg (fun q => e q.2)]; exact i4 i i0 (by omega)
    · rintro h2 ⟨k0, p, z1, z2, i4⟩
      have us : useS (sV S) (tnh T) 0 = 0 := by
        have : ∀ m : Nat, xset_ (fun g => decide (xlender (sV S) 0 g ≠ -2)) m = 0 := by
          intro m
          induction m with
          | zero => rfl
          | succ m ih =>
            show xset_ _ m + (if _ then _ else 0) = 0
            rw [ih, if_neg ?_]
            · rfl
            · have : xlender (sV S) 0 (m : Int) = -2 := rfl
              simp [this]
        exact this _
      have l0 := loop2 0 h2 (by decide) ⟨Int.le_refl _, p, z1, z2, i4, fun i i0 i1 => by omega⟩
      rw [us] at l0
      refine Wp.vc 400 [23, 41] rfl ?_
      exact ⟨fun _ => l0, fun e => absurd (Int.le_refl _) e⟩
  have tz := loop1 0 g (by decide) ⟨Int.le_refl _, XFr.refl g, zg.1, zg.2, fun i i0 i1 => by omega⟩
  exact tz
