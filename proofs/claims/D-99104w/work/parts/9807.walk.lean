/-! WALKS, 46: fits, could, surely, firstOf, ask, askLeaves: the model -/
set_option maxRecDepth 100000
set_option maxHeartbeats 4000000
theorem RowsM.keep {h g : XH} {m n : Int} {L : List (Int → Int)} (A : RowsM h m n L) (f : xfl g m 97 = xfl h m 97) (a : ∀ c i : Int, (c = 11 ∨ c = 12) → xar g (m + c) i = xar h (m + c) i) : RowsM g m n L :=
  ⟨f.trans A.1, fun r0 e i i0 i1 => (a 11 i (Or.inl rfl)).trans (A.2.1 r0 e i i0 i1), fun i j i0 i1 j0 j1 => (a 12 _ (Or.inr rfl)).trans (A.2.2 i j i0 i1 j0 j1)⟩
theorem MU.fitK {d M pc np : Nat} {ls : XL} {st rest : XS} {B m n : Int} {h0 h : XH} {S : XSt} {T : XTw} {Q : XO → XH → Prop} (U : MU B m n h0 h S) (eT : sT S = some T) (e : xstK M pc 0 st = some (np, some 9, 204, [.inr (.inr m)], rest)) (hw : xwords rest ≤ 8) (k : ∀ h1, MU B m n h0 h1 S → FitM h h1 m (tnh T) (unk (sV S) (tnh T)) (fitL T (sV S)) → Wp (d + 3) M np ls rest h1 Q) : Wp (d + 3) M pc ls st h Q := by
  refine Wp.callR e hw ⟨true, U.tm⟩ (Q1 := fun v h' => v = none ∧ MU B m n h0 h' S ∧ FitM h h' m (tnh T) (unk (sV S) (tnh T)) (fitL T (sV S))) ?_ (fun v h1 q => by
    obtain ⟨rfl, q1, q2⟩ := q
    exact k h1 q1 q2)
  have fin : ∀ h1, FitM h h1 m (tnh T) (unk (sV S) (tnh T)) (fitL T (sV S)) → (∃ v : Option XV, (Sum.inl none : XO) = .inl v ∧ v = none ∧ MU B m n h0 h1 S ∧ FitM h h1 m (tnh T) (unk (sV S) (tnh T)) (fitL T (sV S))) := fun h1 F => ⟨none, rfl, rfl, U.scr F.1.1 F.1.2.1 F.1.2.2, F⟩
  have C := U.ctx eT
  have TO := (U.ok eT).1
  have VO := (U.ok eT).2
  have hn := TO.2.2.1
  have tm := U.tm
  have bnd := U.bnd
  have hv := (U.hasT eT).2.2.1
  clear k e U
  refine WpM.of rfl (Wp.vc 400 [12] rfl ?_)
  refine ⟨isW tm rfl, isW tm rfl, ?_⟩
  obtain ⟨g, hg⟩ : ∃ g, g = xputf (xputf h m 96 0) m 97 0 := ⟨_, rfl⟩
  have F0 : FrS m h g := by
    rw [hg]
    exact ⟨((XFr.refl h).putf (Or.inr ⟨rfl, by omega⟩)).putf (Or.inr ⟨rfl, by omega⟩), rfl, rfl⟩
  have fg : xfl g m 96 = 0 ∧ xfl g m 97 = 0 := by rw [hg]; exact ⟨(by (first | assumption | ((try simp only [xcs_putf, xty_putf, xar_putf, xsz_putf, xsl_putf, xfl_putf, xcs_puta, xty_puta, xfl_puta, xsz_puta, xsl_puta, xar_puta, xcs_copy, xty_copy, xfl_copy, xsz_copy, xsl_copy, xar_copy, xcs_newo, xar_newo, xsz_newo, xsl_newo, xty_newo, xfl_newo, xcs_newa, xfl_newa, xsz_newa, xsl_newa, xty_newa, xar_newa, and_true, true_and, and_false, false_and, ite_true, ite_false, eq_self, and_self]) <;> (repeat (first | rw [if_pos (by omega)] | rw [if_neg (by omega)])) <;> (first | assumption | rfl | omega)))), (by (first | assumption | ((try simp only [xcs_putf, xty_putf, xar_putf, xsz_putf, xsl_putf, xfl_putf, xcs_puta, xty_puta, xfl_puta, xsz_puta, xsl_puta, xar_puta, xcs_copy, xty_copy, xfl_copy, xsz_copy, xsl_copy, xar_copy, xcs_newo, xar_newo, xsz_newo, xsl_newo, xty_newo, xfl_newo, xcs_newa, xfl_newa, xsz_newa, xsl_newa, xty_newa, xar_newa, and_true, true_and, and_false, false_and, ite_true, ite_false, eq_self, and_self]) <;> (repeat (first | rw [if_pos (by omega)] | rw [if_neg (by omega)])) <;> (first | assumption | rfl | omega))))⟩
  rw [← hg]
  clear hg tm
  have Cg := C.keep F0
  -- the third part: the tries
  have part3 : ∀ h2 l1 l2, FrS m h h2 → (∀ k : Nat, k < (unk (sV S) (tnh T)).length → xar h2 (m + 9) (k : Int) = (unk (sV S) (tnh T)).getD k 0) → xfl h2 m 96 = ((unk (sV S) (tnh T)).length : Int) → RowsM h2 m (tnh T) [] → (∀ j : Int, 0 ≤ j → j < tnh T → xar h2 (m + 10) j = sV S j) → Wp (d + 2) 204 98 [some (.inr (.inr m)), some (.inl l1), l2] [] h2 (fun o h' => ∃ v, o = .inl v ∧ v = none ∧ MU B m n h0 h' S ∧ FitM h h' m (tnh T) (unk (sV S) (tnh T)) (fitL T (sV S))) := by
    intro h2 l1 l2 F2 A9 f96 R2 of2
    have C2 := C.keep F2
    have tm := C2.2.1.1
    obtain ⟨t10, f93⟩ := C2.2.1.2.2.2.2.2.2.2.2.2.2.1
    obtain ⟨t9, f92⟩ := C2.2.1.2.2.2.2.2.2.2.2.2.1
    have ul := unk_len (V := sV S) (n := tnh T) (by omega)
    cases eu : unk (sV S) (tnh T) with
    | nil =>
      rw [eu] at f96
      have cr := m_countsRow (d := d + 1) (ρ := sV S) C2 (L := []) (by decide) (fun j j0 j1 => by
        refine ⟨of2 j j0 j1, ?_⟩
        rcases VO.1 j j0 j1 with w | w
        · have : j ∈ unk (sV S) (tnh T) := unk_mem.mpr ⟨⟨j0, j1⟩, w⟩
          rw [eu] at this
          cases this
        · exact ⟨w.1, w.2.1⟩) R2
      refine Wp.vc 400 [110] rfl ?_
      rw [f96]
      refine ⟨isF tm rfl, fun w => absurd rfl w, fun _ => ?_⟩
      refine Wp.callR (j := 0) rfl (Nat.le_of_ble_eq_true rfl) ⟨true, tm⟩ cr (fun v h3 q => ?_)
      obtain ⟨rfl, q1, q2, q3, q4⟩ := q
      refine Wp.vc 400 [] rfl ?_
      refine ⟨trivial, ?_⟩
      rw [← eu]
      refine fin h3 ?_
      have F3 : FitM h h2 m (tnh T) (unk (sV S) (tnh T)) [] := ⟨F2, A9, by rw [eu]; exact f96, R2⟩
      have := F3.notes q1 q2 q3 (by have := F2.2.1; omega) q4
      rw [fitL_rwu TO, eu] at *
      exact this
    | cons i us =>
      have hk0 : (unk (sV S) (tnh T)).drop 0 = i :: us := eu
      have im : ∀ j, j ∈ i :: us ↔ (0 ≤ j ∧ j < tnh T) ∧ sV S j = -2 := fun j => by rw [← eu]; exact unk_mem
      have i0 := ((im i).mp List.mem_cons_self).1
      have so := unk_sorted (sV S) (tnh T)
      rw [eu] at so
      have a9 : xar h2 (m + 9) 0 = i := by
        have := A9 0 (by rw [eu]; simp)
        rw [eu] at this
        exact this
      have F3 : FitM h (xputa h2 (m + 10) i (-1)) m (tnh T) (unk (sV S) (tnh T)) [] := FitM.of ⟨F2, A9, f96, R2⟩
      have lu : us.length + 1 ≤ 7 := by
        rw [eu, List.length_cons] at ul
        omega
      have nx := m_flevel (Q := fun o h' => ∃ v, o = .inl v ∧ v = none ∧ MU B m n h0 h' S ∧ FitM h h' m (tnh T) (unk (sV S) (tnh T)) (fitL T (sV S))) C (un := unk (sV S) (tnh T)) (by omega) us d (xputa h2 (m + 10) i (-1)) 0 i (useS (sV S) (tnh T) 7) (sV S) [] l2 hk0 so useS_rg (fun g g0 g1 => by
        rw [useS_bit ⟨by omega, hn.2⟩ (by decide) ⟨g0, g1⟩]
        constructor
        · rintro ⟨j, j0, j1, w⟩
          refine ⟨j, j0, ?_, w⟩
          refine Int.not_le.mp fun q => ?_
          rw [VO.2.2.1 j q j1] at w
          omega
        · rintro ⟨j, j0, j1, w⟩
          exact ⟨j, j0, by omega, w⟩) (fun j j0 j1 => by
        rw [im]
        rcases VO.1 j j0 j1 with w | w
        · exact Or.inl ⟨⟨⟨j0, j1⟩, w⟩, w⟩
        · exact Or.inr ⟨fun q => by omega, w.1, w.2.1⟩) (fun j hj => ((im j).mp hj).1) (by
        have h3 : 7 ^ (us.length + 1) ≤ 7 ^ 7 := Nat.pow_le_pow_right (by decide) lu
        show 0 + 7 ^ (us.length + 1) ≤ 1000000
        omega) F3 (fun j j0 j1 jn => by rw [xar_puta, if_neg (fun w => jn w.2)]; exact of2 j j0 j1) (by rw [xar_puta, if_pos ⟨rfl, rfl⟩]) (fun h3 l2 F3 R3 => by
        rw [List.nil_append, ← eu, ← fitL_rwu TO] at F3
        show Wp _ _ _ [_, some (.inl (((0 : Nat) : Int) - 1)), _] _ _ _
        refine Wp.vc 400 [128] rfl ?_
        exact ⟨fun _ => ⟨trivial, fin h3 F3⟩, fun w => absurd (show ((0 : Nat) : Int) - 1 < 0 by decide) w⟩)
      have nx : Wp (d + 2) 204 124 [some (.inr (.inr m)), some (.inl 0), l2] [] (xputa h2 (m + 10) i (-1)) (fun o h' => ∃ v, o = .inl v ∧ v = none ∧ MU B m n h0 h' S ∧ FitM h h' m (tnh T) (unk (sV S) (tnh T)) (fitL T (sV S))) := nx
      rw [← eu]
      refine Wp.vc 400 [124] rfl ?_
      rw [f96, f92, f93, a9]
      refine ⟨isF tm rfl, fun _ => ⟨isF tm rfl, isF tm rfl, isA t9 (by decide) (by decide), isB t10 i0.1 (by omega), nx⟩, fun w => absurd (Decidable.of_not_not w) (by rw [eu, List.length_cons]; omega)⟩
  -- the second: houses
  have part2 : ∀ (k : Int) (h2 : XH), k ≤ tnh T → (0 ≤ k ∧ FrS m h h2 ∧ (∀ q : Nat, q < (unk (sV S) k).length → xar h2 (m + 9) (q : Int) = (unk (sV S) k).getD q 0) ∧ xfl h2 m 96 = ((unk (sV S) k).length : Int) ∧ RowsM h2 m (tnh T) [] ∧ ∀ j : Int, 0 ≤ j → j < k → xar h2 (m + 10) j = sV S j) → ∀ l2, Wp (d + 2) 204 33 [some (.inr (.inr m)), some (.inl k), l2] [] h2 (fun o h' => ∃ v, o = .inl v ∧ v = none ∧ MU B m n h0 h' S ∧ FitM h h' m (tnh T) (unk (sV S) (tnh T)) (fitL T (sV S))) := by
    refine loopUp (G := fun k h2 => ∀ l2, Wp (d + 2) 204 33 [some (.inr (.inr m)), some (.inl k), l2] [] h2 (fun o h' => ∃ v, o = .inl v ∧ v = none ∧ MU B m n h0 h' S ∧ FitM h h' m (tnh T) (unk (sV S) (tnh T)) (fitL T (sV S)))) (tnh T) ?_ ?_
    · rintro k h2 ⟨k0, F2, A9, f96, R2, of2⟩ hk ih l2
      have C2 := C.keep F2
      have tm := C2.2.1.1
      obtain ⟨t10, f93⟩ := C2.2.1.2.2.2.2.2.2.2.2.2.2.1
      obtain ⟨t9, f92⟩ := C2.2.1.2.2.2.2.2.2.2.2.2.1
      obtain ⟨t2, f81⟩ := C2.2.1.2.2.1
      have c0 := C2.2.2.1.1.2.2
      have f135 : xfl h2 (xfl h2 m 69) 135 = tnh T := C2.2.2.1.2.2.1.2.2.1
      have vk := C2.2.2.2.2.2 k k0 (by omega)
      have us := unk_succ (V := sV S) k0
      have ul := unk_len (V := sV S) (n := k) k0
      have F3 : FrS m h (xputa h2 (m + 10) k (sV S k)) := F2.puta 10 (by decide)
      have R3 : RowsM (xputa h2 (m + 10) k (sV S k)) m (tnh T) [] := R2.keep rfl (fun c i hc => by rw [xar_puta, if_neg (fun w => by omega)])
      have A3 : ∀ c i : Int, c ≠ 10 → xar (xputa h2 (m + 10) k (sV S k)) (m + c) i = xar h2 (m + c) i := fun c i hc => by rw [xar_puta, if_neg (fun w => by omega)]
      have of3 : ∀ j : Int, 0 ≤ j → j < k + 1 → xar (xputa h2 (m + 10) k (sV S k)) (m + 10) j = sV S j := fun j j0 j1 => by
        rw [xar_puta]
        by_cases e : j = k
        · rw [if_pos ⟨rfl, e⟩, e]
        · rw [if_neg (fun w => e w.2)]; exact of2 j j0 (by omega)
      have f96' : xfl (xputa h2 (m + 10) k (sV S k)) m 96 = ((unk (sV S) k).length : Int) := f96
      have g93 : xfl (xputa h2 (m + 10) k (sV S k)) m 93 = m + 10 := f93
      have g92 : xfl (xputa h2 (m + 10) k (sV S k)) m 92 = m + 9 := f92
      have akk := of3 k k0 (by omega)
      have tm3 : xty (xputa h2 (m + 10) k (sV S k)) m = some (true, 9, none) := tm
      have t93 : xty (xputa h2 (m + 10) k (sV S k)) (m + 9) = some (true, 0, some 7) := t9
      have t103 : xty (xputa h2 (m + 10) k (sV S k)) (m + 10) = some (true, 0, some 7) := t10
      have bz : xsz h2 = xsz h := F2.2.1
      obtain ⟨h3, e3⟩ : ∃ h3, h3 = xputa h2 (m + 10) k (sV S k) := ⟨_, rfl⟩
      rw [← e3] at F3 R3 A3 of3 f96' g93 g92 akk tm3 t93 t103
      have go58 : Wp (d + 2) 204 58 [some (.inr (.inr m)), some (.inl k), l2] [] h3 (fun o h' => ∃ v, o = .inl v ∧ v = none ∧ MU B m n h0 h' S ∧ FitM h h' m (tnh T) (unk (sV S) (tnh T)) (fitL T (sV S))) := by
       clear e3 F2 R2 of2 f96 C2 part3
       refine Wp.vc 400 [33] rfl ?_
       rw [g93, akk, g92, f96']
       refine ⟨isF tm3 rfl, isA t103 k0 (by omega), fun c => ?_, fun c => ⟨by omega, ih h3 ⟨by omega, F3, fun q hq => ?_, ?_, R3, of3⟩ _⟩⟩
       · have e1 : unk (sV S) (k + 1) = unk (sV S) k ++ [k] := by rw [us, if_pos c]
         obtain ⟨len, hlen⟩ : ∃ len : Nat, len = (unk (sV S) k).length := ⟨_, rfl⟩
         rw [← hlen] at f96' ul ⊢
         have a96 : xfl (xputa h3 (m + 9) (len : Int) k) m 96 = (len : Int) := f96'
         rw [a96]
         refine ⟨isF tm3 rfl, isF tm3 rfl, isB t93 (by omega) (by omega), isF tm3 rfl, by omega, isW tm3 rfl, by omega, ih (xputf (xputa h3 (m + 9) (len : Int) k) m 96 ((len : Int) + 1)) ⟨by omega, ?_, fun q hq => ?_, ?_, ?_, fun j j0 j1 => ?_⟩ _⟩
         · have F4 := F3.puta 9 (i := (len : Int)) (z := k) (by decide)
           exact ⟨F4.1.putf (Or.inr ⟨rfl, by omega⟩), F4.2.1, F4.2.2⟩
         · rw [xar_putf, xar_puta]
           rw [e1, List.length_append, ← hlen] at hq
           have hq : q < len + 1 := hq
           rw [e1]
           by_cases e : q = len
           · rw [if_pos ⟨rfl, by omega⟩, e, hlen, getD_app2]
           · rw [if_neg (fun w => e (by omega)), getD_app1 (by omega), A3 9 _ (by decide)]
             exact A9 q (by omega)
         · rw [xfl_putf, if_pos ⟨rfl, rfl⟩, e1, List.length_append, ← hlen]
           rfl
         · refine R3.keep ?_ (fun c i hc => ?_)
           · rw [xfl_putf, if_neg (fun w => by omega)]
             rfl
           · rw [xar_putf, xar_puta, if_neg (fun w => by omega)]
         · rw [xar_putf, xar_puta, if_neg (fun w => by omega)]
           exact of3 j j0 j1
       · rw [us, if_neg c, List.append_nil] at hq ⊢
         rw [A3 9 _ (by decide)]
         exact A9 q hq
       · rw [us, if_neg c, List.append_nil]
         exact f96'
      refine Wp.vc 400 [33, 58, 98] rfl ?_
      rw [f135, f93, f81, Int.zero_add, vk, ← e3]
      exact ⟨isF tm rfl, isF c0 rfl, fun w => absurd w (by omega), fun _ => ⟨isF tm rfl, isF tm rfl, by omega, isA t2 k0 (by omega), isB t10 k0 (by omega), go58⟩⟩
    · rintro h2 ⟨k0, F2, A9, f96, R2, of2⟩ l2
      have C2 := C.keep F2
      have tm := C2.2.1.1
      have c0 := C2.2.2.1.1.2.2
      have f135 : xfl h2 (xfl h2 m 69) 135 = tnh T := C2.2.2.1.2.2.1.2.2.1
      have p3 := part3 h2 (tnh T) l2 F2 A9 f96 R2 of2
      refine Wp.vc 400 [44, 98] rfl ?_
      rw [f135]
      exact ⟨isF tm rfl, isF c0 rfl, fun _ => p3, fun w => absurd (Int.le_refl _) w⟩
  have part1 : ∀ (k : Int) (h2 : XH), k ≤ 49 → (0 ≤ k ∧ XFr (fun _ _ => False) (fun z => z = m + 12) g h2 ∧ xsz h2 = xsz h ∧ xsl h2 = xsl h ∧ ∀ i : Int, 0 ≤ i → i < k → xar h2 (m + 12) i = 0) → Wp (d + 2) 204 12 [some (.inr (.inr m)), some (.inl k), none] [] h2 (fun o h' => ∃ v, o = .inl v ∧ v = none ∧ MU B m n h0 h' S ∧ FitM h h' m (tnh T) (unk (sV S) (tnh T)) (fitL T (sV S))) := by
    refine loopUp (G := fun k h2 => Wp (d + 2) 204 12 [some (.inr (.inr m)), some (.inl k), none] [] h2 (fun o h' => ∃ v, o = .inl v ∧ v = none ∧ MU B m n h0 h' S ∧ FitM h h' m (tnh T) (unk (sV S) (tnh T)) (fitL T (sV S)))) 49 ?_ ?_
    · rintro k h2 ⟨k0, p, z1, z2, i4⟩ hk ih
      have zg := F0.2
      have tm := (p.2.2.1 m (by omega)).trans Cg.2.1.1
      obtain ⟨t12, f95⟩ := Cg.2.1.2.2.2.2.2.2.2.2.2.2.2.2.1
      have t12' := (p.2.2.1 (m + 12) (by omega)).trans t12
      have f95' := (p.2.2.2.1 m 95 (by omega) (fun w => w)).trans f95
      refine Wp.vc 400 [12, 31] rfl ?_
      rw [f95']
      refine ⟨fun e => absurd e (by omega), fun _ => ⟨isF tm rfl, isB t12' k0 hk, by omega, ih _ ⟨by omega, p.puta (Or.inr rfl), z1, z2, fun i i0 i1 => ?_⟩⟩⟩
      rw [xar_puta]
      by_cases e : i = k
      · rw [if_pos ⟨rfl, e⟩]
      · rw [if_neg (fun q => e q.2)]; exact i4 i i0 (by omega)
    · rintro h2 ⟨k0, p, z1, z2, i4⟩
      have zg := F0.2
      have F2 : FrS m h h2 := F0.trans ⟨p.mono (fun _ _ _ e => e.elim) (fun z _ e => ⟨by omega, by omega⟩), by omega, by omega⟩
      have fl : ∀ f, xfl h2 m f = xfl g m f := fun f => p.2.2.2.1 m f (by omega) (fun w => w)
      have p2 := part2 0 h2 (by omega) ⟨Int.le_refl _, F2, fun q hq => absurd hq (Nat.not_lt_zero _), (fl 96).trans fg.1, ⟨(fl 97).trans fg.2, fun r0 e => (by cases e), fun i j i0 i1 j0 j1 => i4 _ (by omega) (by omega)⟩, fun j j0 j1 => by omega⟩ none
      refine Wp.vc 400 [18, 33] rfl ?_
      exact ⟨fun _ => p2, fun e => absurd (Int.le_refl _) e⟩
  exact part1 0 g (by decide) ⟨Int.le_refl _, XFr.refl g, F0.2.1, F0.2.2, fun i i0 i1 => by omega⟩
