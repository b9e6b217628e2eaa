/-! WALKS, 48: rows of exchanges: WrongRoom's tries -/
set_option maxRecDepth 100000
set_option maxHeartbeats 4000000
abbrev exOK (n : Int) (ρ : Int → Int) (c : Int) : Prop := c / 7 < c % 7 ∧ c % 7 < n ∧ canEx ρ (c / 7) (c % 7)
/-- all rows of f exchanges: the codes, how it is then -/
def exs (n : Int) : Nat → (Int → Int) → List (List Int × (Int → Int))
  | 0, ρ => [([], ρ)]
  | f + 1, ρ => (nds 49).flatMap fun c => if exOK n ρ c then (exs n f (swp ρ (c / 7) (c % 7))).map fun w => (c :: w.1, w.2) else []
def exk (n : Int) (f : Nat) (ρ : Int → Int) (c : Int) : List (List Int × (Int → Int)) := if exOK n ρ c then (exs n f (swp ρ (c / 7) (c % 7))).map fun w => (c :: w.1, w.2) else []
theorem exs_st {n : Int} {f : Nat} {ρ : Int → Int} : exs n (f + 1) ρ = (nds 49).flatMap (exk n f ρ) := rfl
def exP (p : List Int) (l : List (List Int × (Int → Int))) : List (List Int × (Int → Int)) := l.map fun w => (p ++ w.1, w.2)
theorem exP_app {p : List Int} {l l' : List (List Int × (Int → Int))} : exP p (l ++ l') = exP p l ++ exP p l' := List.map_append
theorem exP_cons {p : List Int} {c : Int} {l : List (List Int × (Int → Int))} : exP p (l.map fun w => (c :: w.1, w.2)) = exP (p ++ [c]) l := by
  unfold exP
  rw [List.map_map]
  refine List.map_congr_left fun w _ => ?_
  show (p ++ c :: w.1, w.2) = (p ++ [c] ++ w.1, w.2)
  rw [List.append_assoc]
  rfl
/-- whoever pairs more is kept -/
def exb (n : Int) (acc : Int × List Int) (w : List Int × (Int → Int)) : Int × List Int := if acc.1 < xones (xmutual w.2 n) then (xones (xmutual w.2 n), w.1) else acc
theorem flat_skip {α : Type} {F : Int → List α} {a b : Int} (a0 : 0 ≤ a) (ab : a ≤ b) (h : ∀ q : Int, a ≤ q → q < b → F q = []) : (nds b).flatMap F = (nds a).flatMap F := by
  have key : ∀ k : Nat, (∀ q : Int, a ≤ q → q < a + k → F q = []) → (nds (a + k)).flatMap F = (nds a).flatMap F := by
    intro k
    induction k with
    | zero => intro _; rw [show a + ((0 : Nat) : Int) = a by omega]
    | succ k ih =>
      intro h
      rw [show a + ((k + 1 : Nat) : Int) = (a + k) + 1 by omega, nds_succ (by omega), List.flatMap_append, List.flatMap_singleton, h (a + k) (by omega) (by omega), List.append_nil]
      exact ih fun q q0 q1 => h q q0 (by omega)
  have := key (b - a).toNat fun q q0 q1 => h q q0 (by omega)
  rwa [show a + (((b - a).toNat : Nat) : Int) = b by omega] at this
def xc10 (c : Int) : Int := 10 * (c / 7) + c % 7
/-- the tries stand in Exchanges at e -/
def AccE (h : XH) (e : Int) (acc : Int × List Int) : Prop := (xfl h e 64 = acc.1 ∧ -1 ≤ acc.1 ∧ acc.1 ≤ 7) ∧ (xfl h e 65 = (acc.2.length : Int) ∧ acc.2.length ≤ 3) ∧ ∀ j : Nat, j < acc.2.length → xar h (e + 3) (j : Int) = xc10 (acc.2.getD j 0)
def RowE (h : XH) (e : Int) (p : List Int) : Prop := ∀ j : Nat, j < p.length → xar h (e + 2) (j : Int) = xc10 (p.getD j 0)
def FrE (e k : Int) (h g : XH) : Prop := XFr (fun z f => (z = e ∧ (f = 64 ∨ f = 65)) ∨ (e + 8 + 4 * k ≤ z ∧ z < e + 20 ∧ (f = 43 ∨ f = 44))) (fun z => z = e + 2 ∨ z = e + 3 ∨ (e + 8 + 4 * k ≤ z ∧ z < e + 20)) h g ∧ xsz g = xsz h ∧ xsl g = xsl h
theorem FrE.refl {e k : Int} (h : XH) : FrE e k h h := ⟨XFr.refl h, rfl, rfl⟩
theorem FrE.trans {e k : Int} {h g l : XH} (p : FrE e k h g) (q : FrE e k g l) : FrE e k h l := ⟨p.1.trans q.1 (fun _ _ _ e => e) (fun _ _ e => e), q.2.1.trans p.2.1, q.2.2.trans p.2.2⟩
theorem FrE.up {e k : Int} {h g : XH} (p : FrE e (k + 1) h g) : FrE e k h g := ⟨p.1.mono (fun z f _ w => by omega) (fun z _ w => by omega), p.2⟩
def ECtx (h : XH) (B e t n : Int) : Prop := (e + 20 ≤ B ∧ B ≤ xsz h) ∧ ExL h e ∧ xfl h e 63 = t ∧ (B ≤ t ∧ t < xsz h ∧ xty h t = some (true, 10, none) ∧ xfl h t 111 = n) ∧ 0 ≤ n ∧ n ≤ 7
theorem ECtx.keep {h g : XH} {B e t n k : Int} (k0 : -1 ≤ k) (p : FrE e k h g) (C : ECtx h B e t n) : ECtx g B e t n := by
  obtain ⟨p, z1, z2⟩ := p
  obtain ⟨⟨b1, b2⟩, L, f63, ⟨t1, t2, t3, t4⟩, n0, n7⟩ := C
  exact ⟨⟨b1, by omega⟩, L.keep p (by omega) (fun z f h1 h2 hf w => by
    rcases w with w | w
    · rcases w.2 with q | q <;> rw [q] at hf <;> cases hf
    · rcases w.2.2 with q | q <;> rw [q] at hf <;> cases hf) (fun w => by omega), (p.2.2.2.1 e 63 (by omega) (fun w => by omega)).trans f63, ⟨t1, by omega, (p.2.2.1 t t2).trans t3, (p.2.2.2.1 t 111 t2 (fun w => by omega)).trans t4⟩, n0, n7⟩
theorem x_etries {B e t n N : Int} (N3 : 0 ≤ N ∧ N ≤ 3) : ∀ (f D : Nat) (h : XH) (p : List Int) (ρ : Int → Int) (acc : Int × List Int), f + 6 ≤ D → (p.length : Int) + f = N → ECtx h B e t n → RowOK ρ n → (∀ i : Int, 0 ≤ i → i < n → xar h (e + 4 + 4 * (p.length : Int) + 1) i = ρ i) → xfl h (e + 4 + 4 * (p.length : Int)) 43 = t → RowE h e p → AccE h e acc → WpM D 136 [.inr (.inr e), .inl (p.length : Int), .inl N] h (XRet fun v h' => v = none ∧ FrE e (p.length : Int) h h' ∧ AccE h' e ((exP p (exs n f ρ)).foldl (exb n) acc) ∧ RowE h' e p) := by
  intro f
  induction f with
  | zero =>
    intro D h p ρ acc hD hN C RO row f43 R A
    obtain ⟨D, rfl⟩ : ∃ D', D = D' + 6 := ⟨D - 6, by omega⟩
    obtain ⟨⟨b1, b2⟩, L, f63, ⟨t1, t2, t3, t4⟩, n0, n7⟩ := C
    obtain ⟨l0, ⟨l1, l2⟩, ⟨l3, l4⟩, ⟨l5, l6⟩, l7⟩ := L
    have hp : (p.length : Int) = N := by omega
    obtain ⟨Lk, ak⟩ := l7 (p.length : Int) (by omega) (by omega)
    have RT : RoomsT h (e + 4 + 4 * (p.length : Int)) t n := ⟨Lk, f43, ⟨true, t3⟩, t4, n0, n7, fun i i0 i1 => by rw [row i i0 i1]; exact RO i i0 i1⟩
    have mu := x_mutual (d := D + 4) RT
    rw [xmutual_congr RT.2.2.2.2.2.2 row] at mu
    have mr := xmutual_rg ρ (n := n) ⟨n0, n7⟩
    have xr := xones_rg (xmutual ρ n)
    have ef : (exP p (exs n 0 ρ)).foldl (exb n) acc = exb n acc (p, ρ) := by
      show exb n acc (p ++ [], ρ) = _
      rw [List.append_nil]
    rw [ef]
    unfold exb
    obtain ⟨⟨a1, a2, a3⟩, ⟨a4, a5⟩, a6⟩ := id A
    refine WpM.of rfl (Wp.vc 400 [52] rfl ?_)
    rw [l2, ak]
    refine ⟨fun c => absurd hp c, fun _ => ⟨isF l0 rfl, isR l1 (by decide) (by omega) (by omega), ?_⟩⟩
    refine Wp.callE (j := 0) rfl (Nat.le_of_ble_eq_true rfl) ⟨true, Lk.2.1⟩ mu ?_
    refine Wp.vc 400 [52] rfl ?_
    refine Wp.callE (j := 0) rfl (Nat.le_of_ble_eq_true rfl) trivial (x_ones _ mr) ?_
    refine Wp.vc 400 [52] rfl ?_
    rw [a1]
    refine ⟨isF l0 rfl, fun c => ?_, fun c => ⟨trivial, none, rfl, rfl, FrE.refl _, ?_, R⟩⟩
    · rw [if_pos c, show xfl (xputf (xputf h e 64 (xones (xmutual ρ n))) e 65 N) e 61 = e + 2 from (by (first | assumption | ((try simp only [xcs_putf, xty_putf, xar_putf, xsz_putf, xsl_putf, xfl_putf, xcs_puta, xty_puta, xfl_puta, xsz_puta, xsl_puta, xar_puta, xcs_copy, xty_copy, xfl_copy, xsz_copy, xsl_copy, xar_copy, xcs_newo, xar_newo, xsz_newo, xsl_newo, xty_newo, xfl_newo, xcs_newa, xfl_newa, xsz_newa, xsl_newa, xty_newa, xar_newa, and_true, true_and, and_false, false_and, ite_true, ite_false, eq_self, and_self]) <;> (repeat (first | rw [if_pos (by omega)] | rw [if_neg (by omega)])) <;> (first | assumption | rfl | omega)))), show xfl (xputf (xputf h e 64 (xones (xmutual ρ n))) e 65 N) e 62 = e + 3 from (by (first | assumption | ((try simp only [xcs_putf, xty_putf, xar_putf, xsz_putf, xsl_putf, xfl_putf, xcs_puta, xty_puta, xfl_puta, xsz_puta, xsl_puta, xar_puta, xcs_copy, xty_copy, xfl_copy, xsz_copy, xsl_copy, xar_copy, xcs_newo, xar_newo, xsz_newo, xsl_newo, xty_newo, xfl_newo, xcs_newa, xfl_newa, xsz_newa, xsl_newa, xty_newa, xar_newa, and_true, true_and, and_false, false_and, ite_true, ite_false, eq_self, and_self]) <;> (repeat (first | rw [if_pos (by omega)] | rw [if_neg (by omega)])) <;> (first | assumption | rfl | omega))))]
      refine ⟨isW l0 rfl, isW l0 rfl, isF l0 rfl, isF l0 rfl, ⟨true, 3, 3, l3, l5, by decide, by decide, by decide, by decide, by decide⟩, trivial, none, rfl, rfl, ⟨?_, rfl, rfl⟩, ?_, ?_⟩
      · exact (((XFr.refl h).putf (Or.inr (Or.inl ⟨rfl, Or.inl rfl⟩))).putf (Or.inr (Or.inl ⟨rfl, Or.inr rfl⟩))).copy (Or.inr (Or.inr (Or.inl rfl)))
      · refine ⟨⟨?_, by show -1 ≤ xones (xmutual ρ n); omega, xr.2⟩, ⟨?_, by show p.length ≤ 3; omega⟩, fun j hj => ?_⟩
        · simp only [xcs_putf, xty_putf, xar_putf, xsz_putf, xsl_putf, xfl_putf, xcs_puta, xty_puta, xfl_puta, xsz_puta, xsl_puta, xar_puta, xcs_copy, xty_copy, xfl_copy, xsz_copy, xsl_copy, xar_copy, xcs_newo, xar_newo, xsz_newo, xsl_newo, xty_newo, xfl_newo, xcs_newa, xfl_newa, xsz_newa, xsl_newa, xty_newa, xar_newa, and_true, true_and, and_false, false_and, ite_true, ite_false, eq_self, and_self]
          exact if_neg (by omega)
        · simp only [xcs_putf, xty_putf, xar_putf, xsz_putf, xsl_putf, xfl_putf, xcs_puta, xty_puta, xfl_puta, xsz_puta, xsl_puta, xar_puta, xcs_copy, xty_copy, xfl_copy, xsz_copy, xsl_copy, xar_copy, xcs_newo, xar_newo, xsz_newo, xsl_newo, xty_newo, xfl_newo, xcs_newa, xfl_newa, xsz_newa, xsl_newa, xty_newa, xar_newa, and_true, true_and, and_false, false_and, ite_true, ite_false, eq_self, and_self]
          exact hp.symm
        · have hj : j < p.length := hj
          simp only [xcs_putf, xty_putf, xar_putf, xsz_putf, xsl_putf, xfl_putf, xcs_puta, xty_puta, xfl_puta, xsz_puta, xsl_puta, xar_puta, xcs_copy, xty_copy, xfl_copy, xsz_copy, xsl_copy, xar_copy, xcs_newo, xar_newo, xsz_newo, xsl_newo, xty_newo, xfl_newo, xcs_newa, xfl_newa, xsz_newa, xsl_newa, xty_newa, xar_newa, and_true, true_and, and_false, false_and, ite_true, ite_false, eq_self, and_self]
          rw [if_pos ⟨by omega, by omega⟩, show (0 : Int) + ((j : Int) - 0) = (j : Int) by omega]
          exact R j hj
      · intro j hj
        simp only [xcs_putf, xty_putf, xar_putf, xsz_putf, xsl_putf, xfl_putf, xcs_puta, xty_puta, xfl_puta, xsz_puta, xsl_puta, xar_puta, xcs_copy, xty_copy, xfl_copy, xsz_copy, xsl_copy, xar_copy, xcs_newo, xar_newo, xsz_newo, xsl_newo, xty_newo, xfl_newo, xcs_newa, xfl_newa, xsz_newa, xsl_newa, xty_newa, xar_newa, and_true, true_and, and_false, false_and, ite_true, ite_false, eq_self, and_self]
        rw [if_neg (fun q => by omega)]
        exact R j hj
    · rw [if_neg c]
      exact A
  | succ f ih =>
    intro D h p ρ acc hD hN C RO row f43 R A
    obtain ⟨D, rfl⟩ : ∃ D', D = D' + 7 := ⟨D - 7, by omega⟩
    have hN : (p.length : Int) + (f + 1) = N := by omega
    obtain ⟨pl, hpl⟩ : ∃ pl : Int, pl = (p.length : Int) := ⟨_, rfl⟩
    have n7 : 0 ≤ n ∧ n ≤ 7 := C.2.2.2.2
    have nk : ∀ q : Int, ¬ (q / 7 < q % 7 ∧ q % 7 < n) → exk n f ρ q = [] := fun q hq => if_neg (fun w => hq ⟨w.1, w.2.1⟩)
    rw [exs_st, ← hpl]
    rw [← hpl] at hN row f43
    -- the two loops, by codes
    have inner : ∀ (i : Int), (0 ≤ i ∧ i < n) → (∀ h2 l4, FrE e pl h h2 → AccE h2 e ((exP p ((nds (7 * (i + 1))).flatMap (exk n f ρ))).foldl (exb n) acc) → RowE h2 e p → Wp (D + 7) 136 54 [some (.inr (.inr e)), some (.inl pl), some (.inl N), some (.inl (i + 1)), l4] [] h2 (XRet fun v h' => v = none ∧ FrE e pl h h' ∧ AccE h' e ((exP p ((nds 49).flatMap (exk n f ρ))).foldl (exb n) acc) ∧ RowE h' e p)) → ∀ (j : Int) (h2 : XH), j ≤ n → (i + 1 ≤ j ∧ FrE e pl h h2 ∧ AccE h2 e ((exP p ((nds (7 * i + j)).flatMap (exk n f ρ))).foldl (exb n) acc) ∧ RowE h2 e p) → Wp (D + 7) 136 70 [some (.inr (.inr e)), some (.inl pl), some (.inl N), some (.inl i), some (.inl j)] [] h2 (XRet fun v h' => v = none ∧ FrE e pl h h' ∧ AccE h' e ((exP p ((nds 49).flatMap (exk n f ρ))).foldl (exb n) acc) ∧ RowE h' e p) := by
      intro i i0 nxt
      refine loopUp (G := fun j h2 => Wp (D + 7) 136 70 [some (.inr (.inr e)), some (.inl pl), some (.inl N), some (.inl i), some (.inl j)] [] h2 (XRet fun v h' => v = none ∧ FrE e pl h h' ∧ AccE h' e ((exP p ((nds 49).flatMap (exk n f ρ))).foldl (exb n) acc) ∧ RowE h' e p)) n ?_ ?_
      · rintro j h2 ⟨j0, F2, A2, R2⟩ hj ihj
        have C2 := C.keep (by omega) F2
        obtain ⟨⟨b1, b2⟩, L, f63, ⟨t1, t2, t3, t4⟩, -, -⟩ := C2
        obtain ⟨l0, ⟨l1, l2⟩, ⟨l3, l4⟩, ⟨l5, l6⟩, l7⟩ := L
        obtain ⟨Lk, ak⟩ := l7 pl (by omega) (by omega)
        obtain ⟨Lk1, ak1⟩ := l7 (pl + 1) (by omega) (by omega)
        have ek1 : e + 4 + 4 * (pl + 1) = e + 4 + 4 * pl + 4 := by omega
        rw [ek1] at Lk1 ak1
        have row2 : ∀ q : Int, 0 ≤ q → q < n → xar h2 (e + 4 + 4 * pl + 1) q = ρ q := fun q q0 q1 => (F2.1.2.2.2.2 _ q (by have := F2.2.1; omega) (fun w => by omega)).trans (row q q0 q1)
        have g43 : xfl h2 (e + 4 + 4 * pl) 43 = t := (F2.1.2.2.2.1 _ 43 (by have := F2.2.1; omega) (fun w => by omega)).trans f43
        have cx := x_canExchange (d := D + 6) Lk (h := i) (g := j) ⟨i0.1, by omega⟩ ⟨by omega, by omega⟩
        have eqv := canEx_congr (V := xar h2 (e + 4 + 4 * pl + 1)) (W := ρ) row2 i0 ⟨by omega, hj⟩
        have cd : (7 * i + j) / 7 = i ∧ (7 * i + j) % 7 = j := by omega
        have ok : exOK n ρ (7 * i + j) ↔ (i < j ∧ j < n ∧ canEx ρ i j) := by
          unfold exOK
          rw [cd.1, cd.2]
        have nx : ∀ h3, FrE e pl h2 h3 → AccE h3 e ((exP p (exk n f ρ (7 * i + j))).foldl (exb n) ((exP p ((nds (7 * i + j)).flatMap (exk n f ρ))).foldl (exb n) acc)) → RowE h3 e p → Wp (D + 7) 136 152 [some (.inr (.inr e)), some (.inl pl), some (.inl N), some (.inl i), some (.inl j)] [] h3 (XRet fun v h' => v = none ∧ FrE e pl h h' ∧ AccE h' e ((exP p ((nds 49).flatMap (exk n f ρ))).foldl (exb n) acc) ∧ RowE h' e p) := by
          intro h3 F3 A3 R3
          refine Wp.vc 400 [70] rfl ?_
          refine ⟨by omega, ihj h3 ⟨by omega, F2.trans F3, ?_, R3⟩⟩
          rw [show 7 * i + (j + 1) = (7 * i + j) + 1 by omega, nds_succ (by omega), List.flatMap_append, exP_app, List.foldl_append, List.flatMap_singleton]
          exact A3
        refine Wp.vc 400 [70, 152, 158] rfl ?_
        rw [f63, t4, l2, ak]
        refine ⟨isF l0 rfl, isF t3 rfl, fun w => absurd w (by omega), fun _ => ⟨isF l0 rfl, isR l1 (by decide) (by omega) (by omega), ?_⟩⟩
        refine Wp.callE (j := 0) rfl (Nat.le_of_ble_eq_true rfl) ⟨true, Lk.2.1⟩ cx ?_
        by_cases c : canEx ρ i j
        · rw [if_pos (eqv.mpr c)]
          have kd : exk n f ρ (7 * i + j) = (exs n f (swp ρ ((7 * i + j) / 7) ((7 * i + j) % 7))).map fun w => ((7 * i + j) :: w.1, w.2) := if_pos (ok.mpr ⟨by omega, hj, c⟩)
          rw [cd.1, cd.2] at kd
          rw [kd, exP_cons] at nx
          refine Wp.vc 400 [70, 152, 158] rfl ?_
          rw [l2, ak, ak1]
          refine ⟨fun _ => ⟨isF l0 rfl, by omega, isR l1 (by decide) (by omega) (by omega), isF l0 rfl, isR l1 (by decide) (by omega) (by omega), ?_⟩, fun w => absurd (show ¬ (1 : Int) = 0 by decide) w⟩
          refine Wp.callR (j := 0) rfl (Nat.le_of_ble_eq_true rfl) ⟨true, Lk1.2.1⟩ (x_become Lk1 Lk (Or.inr (by omega))) (fun v h3 q => ?_)
          obtain ⟨rfl, q1, ⟨q2, q3⟩, q4, q5⟩ := q
          have F3 : FrE e pl h2 h3 := ⟨q1.1.mono (fun z f _ w => Or.inr ⟨by omega, by omega, w.2⟩) (fun z _ w => Or.inr (Or.inr ⟨by omega, by omega⟩)), q1.2⟩
          have C3 := C.keep (by omega) (F2.trans F3)
          obtain ⟨⟨b1', b2'⟩, L', f63', ⟨t1', t2', t3', t4'⟩, -, -⟩ := C3
          obtain ⟨l0', ⟨l1', l2'⟩, ⟨l3', l4'⟩, ⟨l5', l6'⟩, l7'⟩ := L'
          obtain ⟨Lk1', ak1'⟩ := l7' (pl + 1) (by omega) (by omega)
          rw [ek1] at Lk1' ak1'
          have row3 : ∀ q : Int, 0 ≤ q → q < n → xar h3 (e + 4 + 4 * pl + 4 + 1) q = ρ q := fun q q0 q1 => (q4 q q0 (by omega)).trans (row2 q q0 q1)
          have ex := x_exchange_ (d := D + 6) Lk1' (h := i) (g := j) ⟨i0.1, by omega⟩ ⟨by omega, by omega⟩
          refine Wp.vc 400 [70, 152, 158] rfl ?_
          rw [l2', ak1']
          refine ⟨isF l0' rfl, by omega, isR l1' (by decide) (by omega) (by omega), ?_⟩
          refine Wp.callE (j := 0) rfl (Nat.le_of_ble_eq_true rfl) ⟨true, Lk1'.2.1⟩ ex ?_
          have row4 : ∀ q : Int, 0 ≤ q → q < n → xar (xputa (xputa h3 (e + 4 + 4 * pl + 4 + 1) i (xar h3 (e + 4 + 4 * pl + 4 + 1) j)) (e + 4 + 4 * pl + 4 + 1) j (xar h3 (e + 4 + 4 * pl + 4 + 1) i)) (e + 4 + 4 * pl + 4 + 1) q = swp ρ i j q := fun q q0 q1 => xputa_swp row3 i0 ⟨by omega, hj⟩ ⟨q0, q1⟩
          have F4 : FrE e pl h3 (xputa (xputa h3 (e + 4 + 4 * pl + 4 + 1) i (xar h3 (e + 4 + 4 * pl + 4 + 1) j)) (e + 4 + 4 * pl + 4 + 1) j (xar h3 (e + 4 + 4 * pl + 4 + 1) i)) := ⟨((XFr.refl h3).puta (Or.inr (Or.inr (Or.inr ⟨by omega, by omega⟩)))).puta (Or.inr (Or.inr (Or.inr ⟨by omega, by omega⟩))), rfl, rfl⟩
          have f43' : xfl h3 (e + 4 + 4 * pl + 4) 43 = t := q2.trans g43
          have a23 : ∀ c i', (c = 2 ∨ c = 3) → xar (xputa (xputa h3 (e + 4 + 4 * pl + 4 + 1) i (xar h3 (e + 4 + 4 * pl + 4 + 1) j)) (e + 4 + 4 * pl + 4 + 1) j (xar h3 (e + 4 + 4 * pl + 4 + 1) i)) (e + c) i' = xar h2 (e + c) i' := fun c i' hc => by
            rw [xar_puta, if_neg (fun w => by omega), xar_puta, if_neg (fun w => by omega)]
            exact q1.1.2.2.2.2 (e + c) i' (by omega) (fun w => by omega)
          have fe : ∀ f, f ≠ 43 → f ≠ 44 → xfl h3 e f = xfl h2 e f := fun f h1 h2 => q1.1.2.2.2.1 e f (by omega) (fun w => by omega)
          obtain ⟨h4, e4⟩ : ∃ h4, h4 = xputa (xputa h3 (e + 4 + 4 * pl + 4 + 1) i (xar h3 (e + 4 + 4 * pl + 4 + 1) j)) (e + 4 + 4 * pl + 4 + 1) j (xar h3 (e + 4 + 4 * pl + 4 + 1) i) := ⟨_, rfl⟩
          have fl4 : ∀ a f, xfl h4 a f = xfl h3 a f := by rw [e4]; intro a f; rfl
          rw [← e4] at row4 F4 a23 ⊢
          clear e4 ex
          have C4 := C.keep (by omega) ((F2.trans F3).trans F4)
          obtain ⟨⟨b1'', b2''⟩, L'', f63'', ⟨t1'', t2'', t3'', t4''⟩, -, -⟩ := C4
          obtain ⟨l0'', ⟨l1'', l2''⟩, ⟨l3'', l4''⟩, -, -⟩ := L''
          have R4 : RowE h4 e p := fun q hq => (a23 2 _ (Or.inl rfl)).trans (R2 q hq)
          have F5 : FrE e pl h4 (xputa h4 (e + 2) pl (10 * i + j)) := ⟨(XFr.refl h4).puta (Or.inr (Or.inl rfl)), rfl, rfl⟩
          have C5 := C.keep (by omega) (((F2.trans F3).trans F4).trans F5)
          have R5 : RowE (xputa h4 (e + 2) pl (10 * i + j)) e (p ++ [7 * i + j]) := fun q hq => by
            rw [List.length_append, List.length_singleton] at hq
            rw [xar_puta]
            by_cases eq : q = p.length
            · rw [if_pos ⟨rfl, by omega⟩, eq, getD_app2]
              unfold xc10
              rw [cd.1, cd.2]
            · rw [if_neg (fun w => eq (by omega)), getD_app1 (by omega)]
              exact R4 q (by omega)
          have A5 : AccE (xputa h4 (e + 2) pl (10 * i + j)) e ((exP p ((nds (7 * i + j)).flatMap (exk n f ρ))).foldl (exb n) acc) := by
            obtain ⟨⟨a1, a2, a3⟩, ⟨a4, a5⟩, a6⟩ := A2
            refine ⟨⟨((fl4 e 64).trans (fe 64 (by decide) (by decide))).trans a1, a2, a3⟩, ⟨((fl4 e 65).trans (fe 65 (by decide) (by decide))).trans a4, a5⟩, fun q hq => ?_⟩
            rw [xar_puta, if_neg (fun w => by omega), a23 3 _ (Or.inr rfl)]
            exact a6 q hq
          have pl1 : ((p ++ [7 * i + j]).length : Int) = pl + 1 := by rw [List.length_append]; simp; omega
          have kl := ih (D + 6) (xputa h4 (e + 2) pl (10 * i + j)) (p ++ [7 * i + j]) (swp ρ i j) _ (by omega) (by omega) C5 (swp_ok RO i0 ⟨by omega, hj⟩) (by
            rw [pl1, ek1]
            intro q q0 q1
            rw [xar_puta, if_neg (fun w => by omega)]
            exact row4 q q0 q1) (by rw [pl1, ek1]; exact (fl4 _ 43).trans f43') R5 A5
          rw [pl1] at kl
          refine Wp.vc 400 [70, 152, 158] rfl ?_
          rw [l4'']
          refine ⟨isF l0'' rfl, by omega, by omega, isB l3'' (by omega) (by omega), by omega, ?_⟩
          refine Wp.callR (j := 0) rfl (Nat.le_of_ble_eq_true rfl) ⟨true, l0''⟩ kl (fun v h6 q => ?_)
          obtain ⟨rfl, k1, k2, k3⟩ := q
          exact nx h6 (((F3.trans F4).trans F5).trans k1.up) k2 (fun q hq => by
            rw [k3 q (by rw [List.length_append]; omega), getD_app1 hq])
        · rw [if_neg (fun w => c (eqv.mp w))]
          have kd : exk n f ρ (7 * i + j) = [] := if_neg (fun w => c (ok.mp w).2.2)
          rw [kd] at nx
          refine Wp.vc 400 [70, 152, 158] rfl ?_
          exact ⟨fun w => absurd rfl w, fun _ => nx h2 (FrE.refl _) A2 R2⟩
      · rintro h2 ⟨j0, F2, A2, R2⟩
        have C2 := C.keep (by omega) F2
        obtain ⟨⟨b1, b2⟩, L, f63, ⟨t1, t2, t3, t4⟩, -, -⟩ := C2
        have l0 := L.1
        have nxt := nxt h2 (some (.inl n)) F2 (by
          rw [flat_skip (a := 7 * i + n) (by omega) (by omega) (fun q q0 q1 => nk q (fun w => by omega))]
          exact A2) R2
        refine Wp.vc 400 [54, 82] rfl ?_
        rw [f63, t4]
        exact ⟨isF l0 rfl, isF t3 rfl, fun _ => ⟨by omega, nxt⟩, fun w => absurd (Int.le_refl _) w⟩
    have outer : ∀ (i : Int) (h2 : XH), i ≤ n → (0 ≤ i ∧ FrE e pl h h2 ∧ AccE h2 e ((exP p ((nds (7 * i)).flatMap (exk n f ρ))).foldl (exb n) acc) ∧ RowE h2 e p) → ∀ l4, Wp (D + 7) 136 54 [some (.inr (.inr e)), some (.inl pl), some (.inl N), some (.inl i), l4] [] h2 (XRet fun v h' => v = none ∧ FrE e pl h h' ∧ AccE h' e ((exP p ((nds 49).flatMap (exk n f ρ))).foldl (exb n) acc) ∧ RowE h' e p) := by
      refine loopUp (G := fun i h2 => ∀ l4, Wp (D + 7) 136 54 [some (.inr (.inr e)), some (.inl pl), some (.inl N), some (.inl i), l4] [] h2 (XRet fun v h' => v = none ∧ FrE e pl h h' ∧ AccE h' e ((exP p ((nds 49).flatMap (exk n f ρ))).foldl (exb n) acc) ∧ RowE h' e p)) n ?_ ?_
      · rintro i h2 ⟨i0, F2, A2, R2⟩ hi ihi l4
        have C2 := C.keep (by omega) F2
        obtain ⟨⟨b1, b2⟩, L, f63, ⟨t1, t2, t3, t4⟩, -, -⟩ := C2
        have l0 := L.1
        have inn := inner i ⟨i0, hi⟩ (fun h3 l4 F3 A3 R3 => ihi h3 ⟨by omega, F3, A3, R3⟩ l4) (i + 1) h2 (by omega) ⟨Int.le_refl _, F2, by
          rw [flat_skip (a := 7 * i) (by omega) (by omega) (fun q q0 q1 => nk q (fun w => by omega))]
          exact A2, R2⟩
        refine Wp.vc 400 [70, 164] rfl ?_
        rw [f63, t4]
        exact ⟨isF l0 rfl, isF t3 rfl, fun w => absurd w (by omega), fun _ => ⟨by omega, inn⟩⟩
      · rintro h2 ⟨i0, F2, A2, R2⟩ l4
        have C2 := C.keep (by omega) F2
        obtain ⟨⟨b1, b2⟩, L, f63, ⟨t1, t2, t3, t4⟩, -, -⟩ := C2
        have l0 := L.1
        refine Wp.vc 400 [65] rfl ?_
        rw [f63, t4]
        refine ⟨isF l0 rfl, isF t3 rfl, fun _ => ⟨trivial, none, rfl, rfl, F2, ?_, R2⟩, fun w => absurd (Int.le_refl _) w⟩
        rw [flat_skip (a := 7 * n) (b := 49) (by omega) (by omega) (fun q q0 q1 => nk q (fun w => by omega))]
        exact A2
    have go := outer 0 h n7.1 ⟨Int.le_refl _, FrE.refl _, A, R⟩ none
    refine WpM.of rfl (Wp.vc 400 [5, 54] rfl ?_)
    exact ⟨fun _ => go, fun c => absurd (Decidable.of_not_not c) (by omega)⟩
