/-! WALKS, 28: the model's ways, the loop -/
set_option maxRecDepth 100000
set_option maxHeartbeats 4000000
/-- the houses from k on -/
def ndr (k n : Int) : List Int := (nds n).drop k.toNat
theorem nds_len (n : Int) : (nds n).length = n.toNat := by unfold nds; rw [List.length_map, List.length_range]
theorem nds_get {n : Int} {k : Nat} (h : k < (nds n).length) : (nds n)[k] = (k : Int) := by
  simp [nds]
theorem ndr_st {k n : Int} (h0 : 0 ≤ k) (h1 : k < n) : ndr k n = k :: ndr (k + 1) n := by
  unfold ndr
  have hl : k.toNat < (nds n).length := by rw [nds_len]; omega
  rw [List.drop_eq_getElem_cons hl, nds_get, show (k + 1).toNat = k.toNat + 1 by omega, show ((k.toNat : Nat) : Int) = k by omega]
theorem ndr_end {n : Int} : ndr n n = [] := by
  unfold ndr
  exact List.drop_eq_nil_of_le (by rw [nds_len]; exact Nat.le_refl _)
theorem ndr_0 {n : Int} : ndr 0 n = nds n := rfl
/-- how the tries stand -/
def WStM (h0 h : XH) (m : Int) (p ts : List Int) (acc : Option (Int × List Int)) : Prop := FrS m h0 h ∧ RowM h m p ∧ TimM h m ts ∧ WaccM h m acc
theorem WaccM.keep {h g : XH} {m : Int} {acc : Option (Int × List Int)} (f : ∀ x, (x = 89 ∨ x = 90) → xfl g m x = xfl h m x) (a : ∀ i, xar g (m + 7) i = xar h (m + 7) i) (A : WaccM h m acc) : WaccM g m acc := by
  unfold WaccM at A ⊢
  split at A
  · exact ⟨(f 90 (Or.inr rfl)).trans A.1, (f 89 (Or.inl rfl)).trans A.2⟩
  · exact ⟨⟨(f 90 (Or.inr rfl)).trans A.1.1, A.1.2⟩, ⟨(f 89 (Or.inl rfl)).trans A.2.1.1, A.2.1.2⟩, fun j hj => (a _).trans (A.2.2 j hj)⟩
/-- a write behind the prefix: row or times -/
theorem WStM.row {h0 h : XH} {m : Int} {p ts : List Int} {acc : Option (Int × List Int)} {i z : Int} (S : WStM h0 h m p ts acc) (hi : (p.length : Int) ≤ i) : WStM h0 (xputa h (m + 6) i z) m p ts acc := by
  obtain ⟨s1, s2, s3, s4⟩ := S
  refine ⟨s1.puta 6 (by decide), fun j hj => ?_, fun j hj => ?_, WaccM.keep (h := h) (fun x _ => rfl) (fun i' => ?_) s4⟩
  · rw [xar_puta, if_neg (fun w => by omega)]
    exact s2 j hj
  · rw [xar_puta, if_neg (fun w => by omega)]
    exact s3 j hj
  · rw [xar_puta, if_neg (fun w => by omega)]
theorem WStM.tim {h0 h : XH} {m : Int} {p ts : List Int} {acc : Option (Int × List Int)} {i z : Int} (S : WStM h0 h m p ts acc) (hi : (ts.length : Int) ≤ i) : WStM h0 (xputa h (m + 8) i z) m p ts acc := by
  obtain ⟨s1, s2, s3, s4⟩ := S
  refine ⟨s1.puta 8 (by decide), fun j hj => ?_, fun j hj => ?_, WaccM.keep (h := h) (fun x _ => rfl) (fun i' => ?_) s4⟩
  · rw [xar_puta, if_neg (fun w => by omega)]
    exact s2 j hj
  · rw [xar_puta, if_neg (fun w => by omega)]
    exact s3 j hj
  · rw [xar_puta, if_neg (fun w => by omega)]
theorem row_snoc {h : XH} {a : Int} {p : List Int} {e : Int} (R : ∀ j : Nat, j < p.length → xar h a (j : Int) = p.getD j 0) (h1 : xar h a (p.length : Int) = e) : ∀ j : Nat, j < (p ++ [e]).length → xar h a (j : Int) = (p ++ [e]).getD j 0 := by
  intro j hj
  rw [List.length_append, List.length_singleton] at hj
  by_cases c : j = p.length
  · rw [c, getD_app2, h1]
  · rw [getD_app1 (by omega)]
    exact R j (by omega)
theorem row_init {h : XH} {a : Int} {p : List Int} {e : Int} (R : ∀ j : Nat, j < (p ++ [e]).length → xar h a (j : Int) = (p ++ [e]).getD j 0) : (∀ j : Nat, j < p.length → xar h a (j : Int) = p.getD j 0) ∧ xar h a (p.length : Int) = e := by
  refine ⟨fun j hj => ?_, ?_⟩
  · rw [R j (by rw [List.length_append]; omega), getD_app1 hj]
  · rw [R p.length (by rw [List.length_append, List.length_singleton]; omega), getD_app2]
theorem wkid_used {T : XTw} {V : Int → Int} {b : Bool} {g u a t j : Int} {f : Nat} (h : xbit u j) : wkid T V b g f u a t j = [] := if_pos h
theorem wys_full {T : XTw} {V : Int → Int} {b : Bool} {g u e v : Int} (hM : MskOK u (tnh T) (tnh T)) (ne : e ≠ g) : ∀ f : Nat, wys T V b g f u e v = [] := by
  intro f
  cases f with
  | zero => rfl
  | succ f =>
    rw [wys_st ne, List.map_eq_nil_iff, List.flatMap_eq_nil_iff]
    intro j hj
    have hj := nds_mem.mp hj
    exact wkid_used (hM.full j hj.1 hj.2)
theorem m_wlevel {B m n goal from_ minute : Int} {b : Bool} {T : XTw} {V : Int → Int} {Q : XO → XH → Prop} {h0 : XH} (C0 : MCtx h0 B m n T V) : ∀ (f : Nat) (d : Nat) (h : XH) (p' ts' : List Int) (a t u : Int) (acc : Option (Int × List Int)), p'.length + 1 + f = 7 → ts'.length = p'.length → (p'.length : Int) + 1 < tnh T → MskOK u (tnh T) ((p'.length : Int) + 1) → (0 ≤ a ∧ a < tnh T) → (0 ≤ t ∧ t ≤ 1440 + 1449 * (p'.length : Int)) → WStM h0 h m (p' ++ [a]) (ts' ++ [t]) acc → xar h (m + 6) ((p'.length : Int) + 1) = -1 →
    (∀ h', WStM h0 h' m (p' ++ [a]) (ts' ++ [t]) ((wysP (p' ++ [a]) ((nds (tnh T)).flatMap (wkid T V b goal f u a t))).foldl wbO acc) → Wp (d + 4) 195 52 [some (.inr (.inr m)), some (.inl from_), some (.inl goal), some (.inl minute), some (.inl (xbi b)), some (.inl u), some (.inl (p'.length : Int))] [] h' Q) →
    Wp (d + 4) 195 52 [some (.inr (.inr m)), some (.inl from_), some (.inl goal), some (.inl minute), some (.inl (xbi b)), some (.inl u), some (.inl ((p'.length : Int) + 1))] [] h Q := by
  intro f
  induction f with
  | zero =>
    intro d h p' ts' a t u acc hf ht hk M a0 t0 S0 hr K
    have := M.1
    omega
  | succ f ihf =>
    intro d h p' ts' a t u acc hf ht hk M a0 t0 S0 hr K
    obtain ⟨k, ek⟩ : ∃ k : Int, k = (p'.length : Int) + 1 := ⟨_, rfl⟩
    have lp : (p' ++ [a]).length = p'.length + 1 := by simp
    have lt : (ts' ++ [t]).length = p'.length + 1 := by simp [ht]
    have hM := M.rg
    have TO := C0.2.2.2.1
    have hn := TO.2.2.1
    rw [← ek] at hk M hr ⊢
    -- at 95: candidates from e on
    have at95 : ∀ (s : Nat) (e : Int) (h' : XH) (acc' : Option (Int × List Int)), (tnh T - e).toNat = s → (0 ≤ e ∧ e ≤ tnh T) → WStM h0 h' m (p' ++ [a]) (ts' ++ [t]) acc' → xar h' (m + 6) k = e → (wysP (p' ++ [a]) ((ndr e (tnh T)).flatMap (wkid T V b goal (f + 1) u a t))).foldl wbO acc' = (wysP (p' ++ [a]) ((nds (tnh T)).flatMap (wkid T V b goal (f + 1) u a t))).foldl wbO acc → Wp (d + 4) 195 95 [some (.inr (.inr m)), some (.inl from_), some (.inl goal), some (.inl minute), some (.inl (xbi b)), some (.inl u), some (.inl k)] [] h' Q := by
      intro s
      induction s with
      | zero =>
        intro e h' acc' hs e0 S' he hacc
        have C' := C0.keep S'.1
        have tm := C'.2.1.1
        obtain ⟨t6, f6⟩ := C'.2.1.2.2.2.2.2.2.1
        have c0 := C'.2.2.1.1.2.2
        have f135 : xfl h' (xfl h' m 69) 135 = tnh T := C'.2.2.1.2.2.1.2.2.1
        have en : e = tnh T := by omega
        rw [en, ndr_end] at hacc
        have K := K h' (by rw [← hacc]; exact S')
        clear C' S' C0 S0 ihf
        refine Wp.vc 400 [52, 95] rfl ?_
        rw [f6, f135, he]
        refine ⟨isF tm rfl, isA t6 (by omega) (by omega), isF tm rfl, isF c0 rfl, fun _ => ⟨isF tm rfl, isA t6 (by omega) (by omega), isF tm rfl, isF c0 rfl, fun w => absurd w (by omega), fun _ => ⟨⟨by omega, by omega⟩, ?_⟩⟩, fun w => absurd (by omega) w⟩
        rw [show k + -1 = (p'.length : Int) by omega]
        exact K
      | succ s ihs =>
        intro e h' acc' hs e0 S' he hacc
        have C' := C0.keep S'.1
        have tm := C'.2.1.1
        obtain ⟨t6, f6⟩ := C'.2.1.2.2.2.2.2.2.1
        obtain ⟨t8, f8⟩ := C'.2.1.2.2.2.2.2.2.2.2.1
        have c0 := C'.2.2.1.1.2.2
        have f135 : xfl h' (xfl h' m 69) 135 = tnh T := C'.2.2.1.2.2.1.2.2.1
        have e1 : e < tnh T := by omega
        rw [ndr_st e0.1 e1, List.flatMap_cons, wysP_app, List.foldl_append] at hacc
        -- the next candidate: row[k]++ at 138 (skips) and 84 (is tried)
        have skip : ∀ g, WStM h0 g m (p' ++ [a]) (ts' ++ [t]) acc' → xar g (m + 6) k = e → wkid T V b goal (f + 1) u a t e = [] → Wp (d + 4) 195 138 [some (.inr (.inr m)), some (.inl from_), some (.inl goal), some (.inl minute), some (.inl (xbi b)), some (.inl u), some (.inl k)] [] g Q := by
          intro g Sg hg hk0
          have Cg := C0.keep Sg.1
          have tmg := Cg.2.1.1
          obtain ⟨t6g, f6g⟩ := Cg.2.1.2.2.2.2.2.2.1
          rw [hk0] at hacc
          have nx := ihs (e + 1) (xputa g (m + 6) k (e + 1)) acc' (by omega) (by omega) (Sg.row (by omega)) (by rw [xar_puta, if_pos ⟨rfl, rfl⟩]) hacc
          clear hacc ihs Cg C' S' C0 S0 K ihf
          refine Wp.vc 400 [95] rfl ?_
          rw [f6g, hg]
          exact ⟨isF tmg rfl, isA t6g (by omega) (by omega), ⟨by omega, by omega⟩, isB t6g (by omega) (by omega), nx⟩
        have back : ∀ g acc'', ¬ xbit u e → WStM h0 g m (p' ++ [a]) (ts' ++ [t]) acc'' → xar g (m + 6) k = e → (wysP (p' ++ [a]) (wkid T V b goal (f + 1) u a t e)).foldl wbO acc' = acc'' → Wp (d + 4) 195 52 [some (.inr (.inr m)), some (.inl from_), some (.inl goal), some (.inl minute), some (.inl (xbi b)), some (.inl (u + 2 ^ e.toNat)), some (.inl k)] [] g Q := by
          intro g acc'' hb Sg hg hk0
          have Cg := C0.keep Sg.1
          have tmg := Cg.2.1.1
          obtain ⟨t6g, f6g⟩ := Cg.2.1.2.2.2.2.2.2.1
          obtain ⟨M2, -, o2⟩ := M.add e0.1 e1 hb
          rw [hk0] at hacc
          have nx := ihs (e + 1) (xputa g (m + 6) k (e + 1)) acc'' (by omega) (by omega) (Sg.row (by omega)) (by rw [xar_puta, if_pos ⟨rfl, rfl⟩]) hacc
          have x2 := x2k (k := e) ⟨e0.1, by omega⟩
          clear hacc ihs Cg C' S' C0 S0 K ihf
          refine Wp.vc 400 [95] rfl ?_
          rw [f6g, hg, o2]
          exact ⟨fun w => absurd w (by omega), fun _ => ⟨isF tmg rfl, isA t6g (by omega) (by omega), fun w => absurd w (by omega), fun _ => ⟨isF tmg rfl, isA t6g (by omega) (by omega), ⟨e0.1, by omega, x2.1, x2.2⟩, isF tmg rfl, isA t6g (by omega) (by omega), ⟨by omega, by omega⟩, isB t6g (by omega) (by omega), nx⟩⟩⟩
        refine Wp.vc 400 [95, 138, 152] rfl ?_
        rw [f6, f135, he]
        refine ⟨isF tm rfl, isA t6 (by omega) (by omega), isF tm rfl, isF c0 rfl, fun w => absurd w (by omega), fun _ => ⟨isF tm rfl, isA t6 (by omega) (by omega), ?_⟩⟩
        refine Wp.callE (j := 0) rfl (Nat.le_of_ble_eq_true rfl) trivial (m_bit u e ⟨by omega, by omega⟩ ⟨e0.1, by omega⟩) ?_
        by_cases cb : xbit u e
        · rw [if_pos cb]
          refine Wp.vc 400 [95, 138, 152] rfl ?_
          exact ⟨fun _ => skip h' S' he (wkid_used cb), fun w => absurd (show ¬ (1 : Int) = 0 by decide) w⟩
        · rw [if_neg cb]
          refine Wp.vc 400 [95, 138, 152] rfl ?_
          refine ⟨fun w => absurd rfl w, fun _ => ?_⟩
          obtain ⟨r1a, r1⟩ := row_init S'.2.1
          obtain ⟨r3a, r3⟩ := row_init S'.2.2.1
          rw [ht] at r3
          have cs := m_canStep (d := d) (b := b) C' a0 ⟨e0.1, e1⟩ (t := t) ⟨t0.1, by omega⟩ (k := k) ⟨by omega, by omega⟩ (by rw [show k - 1 = (p'.length : Int) by omega]; exact r1) he (by rw [show k - 1 = (p'.length : Int) by omega]; exact r3)
          refine Wp.callE (j := 0) rfl (Nat.le_of_ble_eq_true rfl) ⟨true, tm⟩ cs ?_
          have S2 : WStM h0 (xputa h' (m + 8) k ((wst T V b a e t).getD 99999)) m (p' ++ [a]) (ts' ++ [t]) acc' := S'.tim (by omega)
          have kd : wkid T V b goal (f + 1) u a t e = match wst T V b a e t with
            | none => []
            | some v => wys T V b goal (f + 1) (u + 2 ^ e.toNat) e v := if_neg cb
          have r8 : xar (xputa h' (m + 8) k ((wst T V b a e t).getD 99999)) (m + 8) k = (wst T V b a e t).getD 99999 := by rw [xar_puta, if_pos ⟨rfl, rfl⟩]
          have r6 : xar (xputa h' (m + 8) k ((wst T V b a e t).getD 99999)) (m + 6) k = e := by rw [xar_puta, if_neg (fun w => by omega)]; exact he
          cases hw : wst T V b a e t with
          | none =>
            rw [hw] at S2 kd r8 r6
            show Wp _ _ _ _ [.inl 0] _ _
            refine Wp.vc 400 [95, 138, 152] rfl ?_
            exact ⟨fun w => absurd rfl w, fun _ => skip _ S2 r6 kd⟩
          | some v =>
            rw [hw] at S2 kd r8 r6
            have rv := wst_rg TO ⟨a0.1, by omega⟩ ⟨e0.1, by omega⟩ t0.1 hw
            show Wp _ _ _ _ [.inl 1] _ _
            refine Wp.vc 400 [95, 138, 152] rfl ?_
            refine ⟨fun _ => ?_, fun w => absurd (show ¬ (1 : Int) = 0 by decide) w⟩
            obtain ⟨g, hg⟩ : ∃ g, g = xputa h' (m + 8) k ((some v).getD 99999) := ⟨_, rfl⟩
            rw [← hg] at S2 r8 r6 ⊢
            have r8 : xar g (m + 8) k = v := r8
            clear hg cs S' skip t6 f6 t8 f8 c0 f135 tm C' r1 r1a r3 r3a he
            have C2 := C0.keep S2.1
            have tm := C2.2.1.1
            obtain ⟨t6, f6⟩ := C2.2.1.2.2.2.2.2.2.1
            have c0 := C2.2.2.1.1.2.2
            have f135 : xfl g (xfl g m 69) 135 = tnh T := C2.2.2.1.2.2.1.2.2.1
            obtain ⟨M2, o1, -⟩ := M.add e0.1 e1 cb
            have hM2 := M2.rg
            have x2 := x2k (k := e) ⟨e0.1, by omega⟩
            have R2 : RowM g m (p' ++ [a] ++ [e]) := row_snoc S2.2.1 (by rw [lp, show ((p'.length + 1 : Nat) : Int) = k by omega]; exact r6)
            have T2 : TimM g m (ts' ++ [t] ++ [v]) := row_snoc S2.2.2.1 (by rw [lt, show ((p'.length + 1 : Nat) : Int) = k by omega]; exact r8)
            have l3 : (p' ++ [a] ++ [e]).length = p'.length + 2 := by simp
            have kd : wkid T V b goal (f + 1) u a t e = wys T V b goal (f + 1) (u + 2 ^ e.toNat) e v := kd
            refine Wp.vc 400 [52] rfl ?_
            rw [f6, f135, r6, o1]
            refine ⟨isF tm rfl, isA t6 (by omega) (by omega), isF tm rfl, isF c0 rfl, fun _ => ⟨isF tm rfl, isA t6 (by omega) (by omega), ⟨e0.1, by omega, x2.1, x2.2⟩, isF tm rfl, isA t6 (by omega) (by omega), fun ne => ⟨⟨by omega, by omega⟩, isF tm rfl, isF c0 rfl, fun w => ?_, fun w => ⟨⟨by omega, by omega⟩, isF tm rfl, isB t6 (by omega) (by omega), ?_⟩⟩, fun eg => ⟨⟨by omega, by omega⟩, ?_⟩⟩, fun w => absurd e1 w⟩
            · -- all are used
              refine back g acc' cb S2 r6 ?_
              rw [kd, wys_full (by rw [show k + 1 = tnh T by omega] at M2; exact M2) ne]
              rfl
            · -- a level deeper
              have S3 : WStM h0 (xputa g (m + 6) (k + 1) (-1)) m (p' ++ [a] ++ [e]) (ts' ++ [t] ++ [v]) acc' := WStM.row ⟨S2.1, R2, T2, S2.2.2.2⟩ (by rw [l3]; omega)
              have l2 : ((p' ++ [a]).length : Int) = k := by rw [lp]; omega
              have nx := ihf d (xputa g (m + 6) (k + 1) (-1)) (p' ++ [a]) (ts' ++ [t]) e v (u + 2 ^ e.toNat) acc' (by rw [lp]; omega) (by rw [lt, lp]) (by rw [l2]; omega) (by rw [l2]; exact M2) ⟨e0.1, e1⟩ (by rw [l2]; omega) S3 (by rw [l2, xar_puta, if_pos ⟨rfl, rfl⟩])
              rw [l2] at nx
              refine nx (fun h3 S3' => ?_)
              obtain ⟨q1, q2, q3, q4⟩ := S3'
              obtain ⟨u1, u2⟩ := row_init q2
              obtain ⟨u3, -⟩ := row_init q3
              refine back h3 _ cb ⟨q1, u1, u3, q4⟩ ?_ ?_
              · rw [← l2]; exact u2
              · rw [kd, wys_st ne, wysP_cons]
            · -- there
              have eg : e = goal := Decidable.of_not_not eg
              have en := m_ends (d := d + 3) C2 (p := p' ++ [a] ++ [e]) (t := v) ⟨by omega, by omega⟩ ⟨by omega, by omega⟩ R2 (by rw [l3, show ((p'.length + 2 : Nat) : Int) - 1 = k by omega]; exact r8) S2.2.2.2
              rw [l3, show ((p'.length + 2 : Nat) : Int) = k + 1 by omega] at en
              refine Wp.callR (j := 0) rfl (Nat.le_of_ble_eq_true rfl) ⟨true, tm⟩ en (fun x h3 q => ?_)
              obtain ⟨rfl, q1, q2, q3, q4⟩ := q
              refine Wp.vc 400 [52] rfl ?_
              have bm := C2.1
              have a68 : ∀ c i, (c = 6 ∨ c = 8) → xar h3 (m + c) i = xar g (m + c) i := fun c i hc => q1.2.2.2.2 _ i (by omega) (fun w => by omega)
              refine back h3 _ cb ⟨S2.1.trans ⟨q1.mono (fun z f _ w => ⟨w.1, by omega⟩) (fun z _ w => ⟨by omega, by omega⟩), q2, q3⟩, fun j hj => ?_, fun j hj => ?_, q4⟩ ?_ ?_
              · rw [a68 6 _ (Or.inl rfl)]
                exact S2.2.1 j hj
              · rw [a68 8 _ (Or.inr rfl)]
                exact S2.2.2.1 j hj
              · rw [a68 6 _ (Or.inl rfl)]
                exact r6
              · rw [kd, eg, wys_at]
                rfl
    have C := C0.keep S0.1
    have tm := C.2.1.1
    obtain ⟨t6, f6⟩ := C.2.1.2.2.2.2.2.2.1
    have nx := at95 _ 0 (xputa h (m + 6) k 0) acc rfl (by omega) (S0.row (by omega)) (by rw [xar_puta, if_pos ⟨rfl, rfl⟩]) rfl
    clear at95 C C0 S0 K ihf
    refine Wp.vc 400 [95] rfl ?_
    rw [f6, hr]
    refine ⟨fun w => absurd w (by omega), fun _ => ⟨isF tm rfl, isA t6 (by omega) (by omega), fun _ => ⟨isF tm rfl, isA t6 (by omega) (by omega), ⟨by omega, by omega⟩, isB t6 (by omega) (by omega), nx⟩, fun w => absurd rfl w⟩⟩
