/-! WALKS, 45: whose room it is: the model's tries -/
set_option maxRecDepth 100000
set_option maxHeartbeats 4000000
def unk (V : Int → Int) (n : Int) : List Int := (nds n).filter fun i => decide (V i = -2)
noncomputable def rwu (T : XTw) : List Int → Int → (Int → Int) → List (Int → Int)
  | [], _, ρ => [ρ]
  | i :: us, u, ρ => (nds (tnh T)).flatMap fun g => @ite _ (xbit u g ∨ ¬ mayB T i g) (Classical.propDecidable _) [] (rwu T us (u + 2 ^ g.toNat) (xupd ρ i g))
noncomputable def rwv (T : XTw) (us : List Int) (i u : Int) (ρ : Int → Int) (g : Int) : List (Int → Int) := @ite _ (xbit u g ∨ ¬ mayB T i g) (Classical.propDecidable _) [] (rwu T us (u + 2 ^ g.toNat) (xupd ρ i g))
theorem rwu_cons {T : XTw} {us : List Int} {i u : Int} {ρ : Int → Int} : rwu T (i :: us) u ρ = (nds (tnh T)).flatMap (rwv T us i u ρ) := rfl
theorem rwv_no {T : XTw} {us : List Int} {i u g : Int} {ρ : Int → Int} (h : xbit u g ∨ ¬ mayB T i g) : rwv T us i u ρ g = [] := if_pos h
theorem rwv_yes {T : XTw} {us : List Int} {i u g : Int} {ρ : Int → Int} (h : ¬ xbit u g) (h2 : mayB T i g) : rwv T us i u ρ g = rwu T us (u + 2 ^ g.toNat) (xupd ρ i g) := if_neg (fun w => w.elim h (fun w => w h2))
theorem rwf_rwu {T : XTw} {V : Int → Int} : ∀ (f : Nat) (i u : Int) (ρ : Int → Int), 0 ≤ i → i + f = tnh T → rwf T V f i u ρ = rwu T ((ndr i (tnh T)).filter fun i => decide (V i = -2)) u ρ := by
  intro f
  induction f with
  | zero =>
    intro i u ρ i0 hi
    have : i = tnh T := by omega
    rw [this, ndr_end]
    rfl
  | succ f ih =>
    intro i u ρ i0 hi
    rw [ndr_st i0 (by omega), List.filter_cons]
    by_cases c : V i = -2
    · rw [rwf_free c, if_pos (by simpa using c), rwu_cons]
      congr 1
      funext g
      unfold rwk rwv
      rw [ih (i + 1) _ _ (by omega) (by omega)]
    · rw [rwf_known c, if_neg (by simpa using c), ih (i + 1) u ρ (by omega) (by omega)]
theorem fitL_rwu {T : XTw} {V : Int → Int} (TO : TOK T) : fitL T V = rwu T (unk V (tnh T)) (useS V (tnh T) 7) V := by
  have hn := TO.2.2.1
  unfold fitL
  rw [rwf_rwu _ _ _ _ (Int.le_refl _) (by omega)]
  rfl
theorem rwu_len {T : XTw} (hn : tnh T ≤ 7) : ∀ (us : List Int) (u : Int) (ρ : Int → Int), (rwu T us u ρ).length ≤ 7 ^ us.length := by
  intro us
  induction us with
  | nil => intro u ρ; exact Nat.le_refl 1
  | cons i us ih =>
    intro u ρ
    rw [rwu_cons]
    have := flat_len (K := 7 ^ us.length) (f := rwv T us i u ρ) (nds (tnh T)) fun g _ => by
      unfold rwv
      split
      · exact Nat.zero_le _
      · exact ih _ _
    rw [nds_len] at this
    have h2 : (tnh T).toNat * 7 ^ us.length ≤ 7 * 7 ^ us.length := Nat.mul_le_mul_right _ (by omega)
    rw [List.length_cons, Nat.pow_succ]
    omega
theorem nds_sorted (n : Int) : (nds n).Pairwise (· < ·) := by
  unfold nds
  rw [List.pairwise_map]
  exact List.pairwise_lt_range.imp fun h => by omega
theorem unk_sorted (V : Int → Int) (n : Int) : (unk V n).Pairwise (· < ·) := (nds_sorted n).filter _
theorem unk_mem {V : Int → Int} {n i : Int} : i ∈ unk V n ↔ (0 ≤ i ∧ i < n) ∧ V i = -2 := by
  unfold unk
  rw [List.mem_filter, nds_mem]
  simp
theorem unk_succ {V : Int → Int} {k : Int} (h : 0 ≤ k) : unk V (k + 1) = unk V k ++ if V k = -2 then [k] else [] := by
  unfold unk
  rw [nds_succ h, List.filter_append]
  congr 1
  by_cases c : V k = -2
  · rw [if_pos c, List.filter_cons, if_pos (by simpa using c)]
    rfl
  · rw [if_neg c, List.filter_cons, if_neg (by simpa using c)]
    rfl
theorem unk_len {V : Int → Int} {n : Int} (h : 0 ≤ n) : ((unk V n).length : Int) ≤ n := by
  have := List.length_filter_le (fun i => decide (V i = -2)) (nds n)
  rw [nds_len] at this
  unfold unk
  omega
/-- the notes stand in the model -/
def RowsM (h : XH) (m n : Int) (L : List (Int → Int)) : Prop := xfl h m 97 = (L.length : Int) ∧ (∀ r0, L.head? = some r0 → ∀ i : Int, 0 ≤ i → i < n → xar h (m + 11) i = r0 i) ∧ (∀ i g : Int, 0 ≤ i → i < n → 0 ≤ g → g < n → xar h (m + 12) (7 * i + g) = cntL L i g)
theorem m_countsRow {d : Nat} {h : XH} {B m n : Int} {T : XTw} {V ρ : Int → Int} {L : List (Int → Int)} (C : MCtx h B m n T V) (hl : L.length + 1 ≤ 1000000) (hr : ∀ i : Int, 0 ≤ i → i < tnh T → xar h (m + 10) i = ρ i ∧ 0 ≤ ρ i ∧ ρ i < tnh T) (A : RowsM h m (tnh T) L) : WpM d 205 [.inr (.inr m)] h (XRet fun v h' => v = none ∧ XFr (fun z f => z = m ∧ f = 97) (fun z => z = m + 11 ∨ z = m + 12) h h' ∧ xsz h' = xsz h ∧ xsl h' = xsl h ∧ RowsM h' m (tnh T) (L ++ [ρ])) := by
  have TX := C.2.2.1
  have hn := C.2.2.2.1.2.2.1
  have ct := TX.1.2.2
  have tbs := TX.1.2.1
  have tbn := TX.1.1
  have e135 : xfl h (xfl h m 69) 135 = tnh T := TX.2.2.1.2.2.1
  have bnd := C.1
  have tm := C.2.1.1
  obtain ⟨t10, f93⟩ := C.2.1.2.2.2.2.2.2.2.2.2.2.1
  obtain ⟨t11, f94⟩ := C.2.1.2.2.2.2.2.2.2.2.2.2.2.1
  obtain ⟨t12, f95⟩ := C.2.1.2.2.2.2.2.2.2.2.2.2.2.2.1
  clear TX
  obtain ⟨a1, a2, a4⟩ := A
  refine WpM.of rfl (Wp.vc 400 [2] rfl ?_)
  have key : ∀ (k : Int) (h2 : XH), k ≤ tnh T → (0 ≤ k ∧ XFr (fun _ _ => False) (fun z => z = m + 11 ∨ z = m + 12) h h2 ∧ xsz h2 = xsz h ∧ xsl h2 = xsl h ∧ (∀ i : Int, 0 ≤ i → i < tnh T → xar h2 (m + 11) i = if i < k ∧ L.length = 0 then ρ i else xar h (m + 11) i) ∧ ∀ i g : Int, 0 ≤ i → i < tnh T → 0 ≤ g → g < tnh T → xar h2 (m + 12) (7 * i + g) = if i < k then cntL (L ++ [ρ]) i g else cntL L i g) → Wp d 205 2 [some (.inr (.inr m)), some (.inl k)] [] h2 (XRet fun v h' => v = none ∧ XFr (fun z f => z = m ∧ f = 97) (fun z => z = m + 11 ∨ z = m + 12) h h' ∧ xsz h' = xsz h ∧ xsl h' = xsl h ∧ RowsM h' m (tnh T) (L ++ [ρ])) := by
    refine loopUp (G := fun k h2 => Wp d 205 2 [some (.inr (.inr m)), some (.inl k)] [] h2 (XRet fun v h' => v = none ∧ XFr (fun z f => z = m ∧ f = 97) (fun z => z = m + 11 ∨ z = m + 12) h h' ∧ xsz h' = xsz h ∧ xsl h' = xsl h ∧ RowsM h' m (tnh T) (L ++ [ρ]))) (tnh T) ?_ ?_
    · rintro k h2 ⟨k0, p, z1, z2, i3, i4⟩ hk ih
      have ty : ∀ x, x < xsz h → xty h2 x = xty h x := fun x hx => p.2.2.1 x (by omega)
      have fl : ∀ x f, x < xsz h → xfl h2 x f = xfl h x f := fun x f hx => p.2.2.2.1 x f hx (fun e => e)
      have ft : xfl h2 (xfl h m 69) 135 = tnh T := (fl _ _ tbs).trans e135
      have r1 : xar h2 (m + 10) k = ρ k := (p.2.2.2.2 (m + 10) k (by omega) (fun e => by omega)).trans (hr k k0 hk).1
      have rk := (hr k k0 hk).2
      have t0 := (ty m (by omega)).trans tm
      have s10 := (ty (m + 10) (by omega)).trans t10
      have s11 := (ty (m + 11) (by omega)).trans t11
      have s12 := (ty (m + 12) (by omega)).trans t12
      have tt := (ty _ tbs).trans ct
      have v4 := i4 k (ρ k) k0 hk rk.1 rk.2
      rw [if_neg (Int.lt_irrefl k)] at v4
      have cr := cntL_rg (L := L) (i := k) (g := ρ k)
      have cnt' : ∀ (h3 : XH), (∀ x i, xar h3 x i = xar (xputa h2 (m + 12) (7 * k + ρ k) (cntL L k (ρ k) + 1)) x i ∨ x = m + 11) → ∀ i g : Int, 0 ≤ i → i < tnh T → 0 ≤ g → g < tnh T → xar h3 (m + 12) (7 * i + g) = if i < k + 1 then cntL (L ++ [ρ]) i g else cntL L i g := fun h3 hh i g i0 i1 g0 g1 => by
        rw [(hh (m + 12) (7 * i + g)).resolve_right (by omega), xar_puta]
        by_cases e : i = k
        · by_cases e2 : g = ρ k
          · rw [if_pos ⟨rfl, by omega⟩, if_pos (by omega), cntL_app, e, if_pos e2.symm, e2]
          · rw [if_neg (fun q => by omega), i4 i g i0 i1 g0 g1, if_neg (by omega), if_pos (by omega), cntL_app, e, if_neg (fun q => e2 q.symm), Int.add_zero]
        · rw [if_neg (fun q => by omega), i4 i g i0 i1 g0 g1]
          by_cases e2 : i < k
          · rw [if_pos e2, if_pos (by omega)]
          · rw [if_neg e2, if_neg (by omega)]
      refine Wp.vc 400 [2] rfl ?_
      rw [fl m 69 (by omega), ft, (fl m 95 (by omega)).trans f95, (fl m 93 (by omega)).trans f93, r1, v4, show xfl (xputa h2 (m + 12) (7 * k + ρ k) (cntL L k (ρ k) + 1)) m 97 = (L.length : Int) from (fl m 97 (by omega)).trans a1, show xfl (xputa h2 (m + 12) (7 * k + ρ k) (cntL L k (ρ k) + 1)) m 94 = m + 11 from (fl m 94 (by omega)).trans f94, show xfl (xputa h2 (m + 12) (7 * k + ρ k) (cntL L k (ρ k) + 1)) m 93 = m + 10 from (fl m 93 (by omega)).trans f93, show xar (xputa h2 (m + 12) (7 * k + ρ k) (cntL L k (ρ k) + 1)) (m + 10) k = ρ k by rw [xar_puta, if_neg (fun e => by omega)]; exact r1]
      refine ⟨isF t0 rfl, isF tt rfl, fun e => absurd e (by omega), fun _ => ⟨isF t0 rfl, by omega, isF t0 rfl, isA s10 k0 (by omega), by omega, isA s12 (by omega) (by omega), by omega, isB s12 (by omega) (by omega), isF t0 rfl, fun c => ⟨by omega, ih _ ⟨by omega, p.puta (Or.inr (Or.inr rfl)), z1, z2, fun i i0 i1 => ?_, cnt' _ (fun x i => Or.inl rfl)⟩⟩, fun c => ⟨isF t0 rfl, isF t0 rfl, isA s10 k0 (by omega), isB s11 k0 (by omega), by omega, ih _ ⟨by omega, (p.puta (Or.inr (Or.inr rfl))).puta (Or.inr (Or.inl rfl)), z1, z2, fun i i0 i1 => ?_, cnt' _ (fun x i => ?_)⟩⟩⟩⟩
      · rw [xar_puta, if_neg (fun e => by omega), i3 i i0 i1, if_neg (fun w => c (by omega)), if_neg (fun w => c (by omega))]
      · have c : (L.length : Int) = 0 := Decidable.of_not_not c
        rw [xar_puta]
        by_cases e : i = k
        · rw [if_pos ⟨rfl, e⟩, if_pos ⟨by omega, by omega⟩, e]
        · rw [if_neg (fun q => e q.2), xar_puta, if_neg (fun e => by omega), i3 i i0 i1]
          by_cases e2 : i < k
          · rw [if_pos ⟨e2, by omega⟩, if_pos ⟨by omega, by omega⟩]
          · rw [if_neg (fun w => e2 w.1), if_neg (fun w => by omega)]
      · by_cases e : x = m + 11
        · exact Or.inr e
        · refine Or.inl ?_
          rw [xar_puta, if_neg (fun w => e w.1)]
    · rintro h2 ⟨k0, p, z1, z2, i3, i4⟩
      have ty : ∀ x, x < xsz h → xty h2 x = xty h x := fun x hx => p.2.2.1 x (by omega)
      have fl : ∀ x f, x < xsz h → xfl h2 x f = xfl h x f := fun x f hx => p.2.2.2.1 x f hx (fun e => e)
      have ft : xfl h2 (xfl h m 69) 135 = tnh T := (fl _ _ tbs).trans e135
      have t0 := (ty m (by omega)).trans tm
      have tt := (ty _ tbs).trans ct
      refine Wp.vc 400 [13] rfl ?_
      rw [fl m 69 (by omega), ft, (fl m 97 (by omega)).trans a1]
      refine ⟨isF t0 rfl, isF tt rfl, fun _ => ⟨isF t0 rfl, by omega, isW t0 rfl, trivial, none, rfl, rfl, (p.mono (fun _ _ _ e => e.elim) (fun _ _ e => e)).putf (Or.inr ⟨rfl, rfl⟩), z1, z2, ?_, fun r0 hr0 i i0 i1 => ?_, fun i g i0 i1 g0 g1 => ?_⟩, fun e => absurd (Int.le_refl _) e⟩
      · rw [xfl_putf, if_pos ⟨rfl, rfl⟩, List.length_append]
        rfl
      · show xar h2 (m + 11) i = r0 i
        rw [i3 i i0 i1]
        by_cases c : L.length = 0
        · rw [if_pos ⟨i1, c⟩]
          have hL : L = [] := List.length_eq_zero_iff.mp c
          subst hL
          cases hr0
          rfl
        · rw [if_neg (fun w => c w.2)]
          have hL : L ≠ [] := fun e => c (by rw [e]; rfl)
          obtain ⟨x, l, rfl⟩ := List.exists_cons_of_ne_nil hL
          exact a2 r0 hr0 i i0 i1
      · show xar h2 (m + 12) (7 * i + g) = _
        rw [i4 i g i0 i1 g0 g1, if_pos i1]
  refine key 0 h (by omega) ⟨Int.le_refl _, XFr.refl h, rfl, rfl, fun i i0 i1 => ?_, fun i g i0 i1 g0 g1 => ?_⟩
  · rw [if_neg (fun w => by omega)]
  · rw [if_neg (by omega)]
    exact a4 i g i0 i1 g0 g1
theorem m_isFitting {d : Nat} {h : XH} {B m n i g u : Int} {T : XTw} {V ρ : Int → Int} (C : MCtx h B m n T V) (i0 : 0 ≤ i ∧ i < tnh T) (g0 : 0 ≤ g ∧ g < tnh T) (hr : ∀ j : Int, 0 ≤ j → j < tnh T → j ≠ i → xar h (m + 10) j = ρ j) (hg : xar h (m + 10) i = g) (hi : ρ i = -2) (hu : xbit u g ↔ ∃ j : Int, 0 ≤ j ∧ j < tnh T ∧ ρ j = g) : WpM (d + 1) 206 [.inr (.inr m), .inl i] h (XE (some (.inl (xb (¬ xbit u g ∧ mayB T i g)))) h) := by
  have TX := C.2.2.1
  have TO := C.2.2.2.1
  have hn := TO.2.2.1
  have ct := TX.1.2.2
  have e135 : xfl h (xfl h m 69) 135 = tnh T := TX.2.2.1.2.2.1
  have tm := C.2.1.1
  obtain ⟨t10, f93⟩ := C.2.1.2.2.2.2.2.2.2.2.2.2.1
  have mb := m_mayBe (d := d) (i := i) (j := g) TX TO g0
  clear TX C
  refine WpM.of rfl (Wp.vc 400 [2] rfl ?_)
  have key : ∀ (k : Int) (h2 : XH), k ≤ tnh T → (0 ≤ k ∧ h2 = h ∧ ∀ j : Int, 0 ≤ j → j < k → ρ j ≠ g) → Wp (d + 1) 206 2 [some (.inr (.inr m)), some (.inl i), some (.inl k)] [] h2 (XE (some (.inl (xb (¬ xbit u g ∧ mayB T i g)))) h) := by
    refine loopUp (G := fun k h2 => Wp (d + 1) 206 2 [some (.inr (.inr m)), some (.inl i), some (.inl k)] [] h2 (XE (some (.inl (xb (¬ xbit u g ∧ mayB T i g)))) h)) (tnh T) ?_ ?_
    · rintro k h2 ⟨k0, rfl, hk⟩ kn ih
      have nx : ρ k ≠ g → Wp (d + 1) 206 35 [some (.inr (.inr m)), some (.inl i), some (.inl k)] [] h2 (XE (some (.inl (xb (¬ xbit u g ∧ mayB T i g)))) h2) := by
        intro ne
        refine Wp.vc 400 [2] rfl ?_
        refine ⟨by omega, ih h2 ⟨by omega, rfl, fun j j0 j1 => ?_⟩⟩
        by_cases e : j = k
        · rw [e]; exact ne
        · exact hk j j0 (by omega)
      refine Wp.vc 400 [2, 35, 41] rfl ?_
      rw [e135, f93, hg]
      refine ⟨isF tm rfl, isF ct rfl, fun e => absurd e (by omega), fun _ => ⟨fun e => nx (by rw [e, hi]; omega), fun e => ⟨isF tm rfl, isA t10 k0 (by omega), isF tm rfl, isA t10 i0.1 (by omega), fun c => nx ?_, fun c => ⟨⟨by decide, by decide⟩, ?_⟩⟩⟩⟩
      · rw [hr k k0 kn e] at c
        exact c
      · have c := Decidable.of_not_not c
        rw [hr k k0 kn e] at c
        rw [xb_neg (fun w => w.1 (hu.mpr ⟨k, k0, kn, c⟩))]
        exact ⟨rfl, rfl⟩
    · rintro h2 ⟨k0, rfl, hk⟩
      have nb : ¬ xbit u g := fun w => by
        obtain ⟨j, j0, j1, e⟩ := hu.mp w
        exact hk j j0 j1 e
      rw [show xb (¬ xbit u g ∧ mayB T i g) = xb (mayB T i g) by
        by_cases c : mayB T i g
        · rw [xb_pos c, xb_pos ⟨nb, c⟩]
        · rw [xb_neg c, xb_neg (fun w => c w.2)]]
      refine Wp.vc 400 [2, 13] rfl ?_
      rw [e135, f93, hg]
      refine ⟨isF tm rfl, isF ct rfl, fun _ => ⟨isF tm rfl, isF tm rfl, isA t10 i0.1 (by omega), ?_⟩, fun e => absurd (Int.le_refl _) e⟩
      refine Wp.callE (j := 0) rfl (Nat.le_of_ble_eq_true rfl) ⟨true, ct⟩ mb ?_
      refine Wp.vc 400 [] rfl ?_
      exact ⟨xb_rg _, rfl, rfl⟩
  exact key 0 h (by omega) ⟨Int.le_refl _, rfl, fun j j0 j1 => by omega⟩
/-- how the tries stand: row, asked ones, notes -/
def FitM (h0 h : XH) (m n : Int) (un : List Int) (L : List (Int → Int)) : Prop := FrS m h0 h ∧ (∀ k : Nat, k < un.length → xar h (m + 9) (k : Int) = un.getD k 0) ∧ xfl h m 96 = (un.length : Int) ∧ RowsM h m n L
theorem FitM.of {h0 h : XH} {m n i z : Int} {un : List Int} {L : List (Int → Int)} (F : FitM h0 h m n un L) : FitM h0 (xputa h (m + 10) i z) m n un L := by
  obtain ⟨f1, f2, f3, f4, f5, f6⟩ := F
  refine ⟨f1.puta 10 (by decide), fun k hk => ?_, f3, f4, fun r0 e j j0 j1 => ?_, fun j g j0 j1 g0 g1 => ?_⟩
  · rw [xar_puta, if_neg (fun e => by omega)]; exact f2 k hk
  · rw [xar_puta, if_neg (fun e => by omega)]; exact f5 r0 e j j0 j1
  · rw [xar_puta, if_neg (fun e => by omega)]; exact f6 j g j0 j1 g0 g1
theorem FitM.notes {h0 h g : XH} {m n : Int} {un : List Int} {L L' : List (Int → Int)} (F : FitM h0 h m n un L) (p : XFr (fun z f => z = m ∧ f = 97) (fun z => z = m + 11 ∨ z = m + 12) h g) (z1 : xsz g = xsz h) (z2 : xsl g = xsl h) (hm : m + 16 ≤ xsz h) (A : RowsM g m n L') : FitM h0 g m n un L' := by
  obtain ⟨f1, f2, f3, -⟩ := F
  refine ⟨f1.trans ⟨p.mono (fun z f _ e => ⟨e.1, by omega⟩) (fun z _ e => ⟨by omega, by omega⟩), z1, z2⟩, fun k hk => ?_, ?_, A⟩
  · rw [p.2.2.2.2 (m + 9) _ (by omega) (fun e => by omega)]; exact f2 k hk
  · rw [p.2.2.2.1 m 96 (by omega) (fun e => by omega)]; exact f3
theorem m_flevel {B m n : Int} {T : XTw} {V : Int → Int} {Q : XO → XH → Prop} {h0 : XH} {un : List Int} (C0 : MCtx h0 B m n T V) (hun : un.length ≤ 7) : ∀ (us : List Int) (d : Nat) (h : XH) (k : Nat) (i u : Int) (ρ : Int → Int) (L : List (Int → Int)) (l2 : Option XV), un.drop k = i :: us → (i :: us).Pairwise (· < ·) → (0 ≤ u ∧ u < 2 ^ (tnh T).toNat) → (∀ g : Int, 0 ≤ g → g < tnh T → (xbit u g ↔ ∃ j : Int, 0 ≤ j ∧ j < tnh T ∧ ρ j = g)) → (∀ j : Int, 0 ≤ j → j < tnh T → (j ∈ i :: us ∧ ρ j = -2) ∨ (j ∉ i :: us ∧ 0 ≤ ρ j ∧ ρ j < tnh T)) → (∀ j ∈ i :: us, 0 ≤ j ∧ j < tnh T) → L.length + 7 ^ (us.length + 1) ≤ 1000000 → FitM h0 h m (tnh T) un L → (∀ j : Int, 0 ≤ j → j < tnh T → j ≠ i → xar h (m + 10) j = ρ j) → xar h (m + 10) i = -1 →
    (∀ h' l2, FitM h0 h' m (tnh T) un (L ++ rwu T (i :: us) u ρ) → (∀ j : Int, 0 ≤ j → j < tnh T → xar h' (m + 10) j = ρ j) → Wp (d + 2) 204 124 [some (.inr (.inr m)), some (.inl ((k : Int) - 1)), l2] [] h' Q) →
    Wp (d + 2) 204 124 [some (.inr (.inr m)), some (.inl (k : Int)), l2] [] h Q := by
  intro us
  induction us with
  | nil =>
    intro d h k i u ρ L l2 hk hs u0 hu hρ hi hl F hr hi1 K
    have TO := C0.2.2.2.1
    have hn := TO.2.2.1
    have i0 := hi i List.mem_cons_self
    have kl : k < un.length := by
      refine Nat.lt_of_not_le fun w => ?_
      rw [List.drop_eq_nil_of_le w] at hk
      cases hk
    have uk : un.getD k 0 = i := by
      have := List.drop_eq_getElem_cons kl
      rw [hk] at this
      have := (List.cons.inj this).1
      rw [this]
      simp [List.getD, kl]
    have klen : k + 1 = un.length := by
      have := congrArg List.length hk
      simp at this
      omega
    have ρi : ρ i = -2 := by
      rcases hρ i i0.1 i0.2 with w | w
      · exact w.2
      · exact absurd List.mem_cons_self w.1
    have at145 : ∀ (s : Nat) (e : Int) (h' : XH) (L' : List (Int → Int)), (tnh T - e).toNat = s → (0 ≤ e ∧ e ≤ tnh T) → FitM h0 h' m (tnh T) un L' → (∀ j : Int, 0 ≤ j → j < tnh T → j ≠ i → xar h' (m + 10) j = ρ j) → xar h' (m + 10) i = e → L'.length + (tnh T - e).toNat ≤ 1000000 → L' ++ (ndr e (tnh T)).flatMap (rwv T [] i u ρ) = L ++ rwu T [i] u ρ → Wp (d + 2) 204 145 [some (.inr (.inr m)), some (.inl (k : Int)), some (.inl i)] [] h' Q := by
      intro s
      induction s with
      | zero =>
        intro e h' L' hs' e0 F' hr' he hl' hacc
        have C' := C0.keep F'.1
        have tm := C'.2.1.1
        obtain ⟨t10, f93⟩ := C'.2.1.2.2.2.2.2.2.2.2.2.2.1
        have c0 := C'.2.2.1.1.2.2
        have f135 : xfl h' (xfl h' m 69) 135 = tnh T := C'.2.2.1.2.2.1.2.2.1
        have en : e = tnh T := by omega
        rw [en, ndr_end, List.flatMap_nil, List.append_nil] at hacc
        have K := K (xputa h' (m + 10) i (-2)) (some (.inl i)) (by rw [← hacc]; exact F'.of) (fun j j0 j1 => by
          rw [xar_puta]
          by_cases c : j = i
          · rw [if_pos ⟨rfl, c⟩, c, ρi]
          · rw [if_neg (fun w => c w.2)]; exact hr' j j0 j1 c)
        clear C' F' C0 F hl' hacc hl
        refine Wp.vc 400 [124, 145] rfl ?_
        rw [f93, f135, he]
        refine ⟨isF tm rfl, isA t10 i0.1 (by omega), isF tm rfl, isF c0 rfl, fun _ => ⟨isF tm rfl, isA t10 i0.1 (by omega), isF tm rfl, isF c0 rfl, fun w => absurd w (by omega), fun _ => ⟨isF tm rfl, isB t10 i0.1 (by omega), by omega, ?_⟩⟩, fun w => absurd (by omega) w⟩
        rw [show (k : Int) + -1 = (k : Int) - 1 by omega]
        exact K
      | succ s ihs =>
        intro e h' L' hs' e0 F' hr' he hl' hacc
        have C' := C0.keep F'.1
        have tm := C'.2.1.1
        obtain ⟨t10, f93⟩ := C'.2.1.2.2.2.2.2.2.2.2.2.2.1
        obtain ⟨t9, f92⟩ := C'.2.1.2.2.2.2.2.2.2.2.2.1
        have c0 := C'.2.2.1.1.2.2
        have f135 : xfl h' (xfl h' m 69) 135 = tnh T := C'.2.2.1.2.2.1.2.2.1
        have f96 := F'.2.2.1
        have e1 : e < tnh T := by omega
        have bnd := C'.1
        rw [ndr_st e0.1 e1, List.flatMap_cons, ← List.append_assoc] at hacc
        have isf := m_isFitting (d := d) C' i0 ⟨e0.1, e1⟩ hr' he ρi (hu e e0.1 e1)
        have skip : rwv T [] i u ρ e = [] → Wp (d + 2) 204 169 [some (.inr (.inr m)), some (.inl (k : Int)), some (.inl i)] [] h' Q := by
          intro hk0
          rw [hk0, List.append_nil] at hacc
          have nx := ihs (e + 1) (xputa h' (m + 10) i (e + 1)) L' (by omega) (by omega) F'.of (fun j j0 j1 jn => by rw [xar_puta, if_neg (fun w => jn w.2)]; exact hr' j j0 j1 jn) (by rw [xar_puta, if_pos ⟨rfl, rfl⟩]) (by omega) hacc
          clear hacc ihs C' F' C0 F K isf hl hl'
          refine Wp.vc 400 [145] rfl ?_
          rw [f93, he]
          exact ⟨isF tm rfl, isA t10 i0.1 (by omega), by omega, isB t10 i0.1 (by omega), nx⟩
        refine Wp.vc 400 [145, 169, 182] rfl ?_
        rw [f93, f135, he]
        refine ⟨isF tm rfl, isA t10 i0.1 (by omega), isF tm rfl, isF c0 rfl, fun w => absurd w (by omega), fun _ => ?_⟩
        refine Wp.callE (j := 0) rfl (Nat.le_of_ble_eq_true rfl) ⟨true, tm⟩ isf ?_
        by_cases cb : ¬ xbit u e ∧ mayB T i e
        · rw [xb_pos cb]
          have cr := m_countsRow (d := d + 1) (ρ := xupd ρ i e) C' (L := L') (by omega) (fun j j0 j1 => by
            unfold xupd
            by_cases c : j = i
            · rw [if_pos c, c]
              exact ⟨he, e0.1, e1⟩
            · rw [if_neg c, hr' j j0 j1 c]
              refine ⟨rfl, ?_⟩
              rcases hρ j j0 j1 with w | w
              · exact absurd (List.mem_singleton.mp w.1) c
              · exact w.2) F'.2.2.2
          refine Wp.vc 400 [124, 145, 169] rfl ?_
          rw [f93, f135, he, f96]
          refine ⟨fun _ => ⟨isF tm rfl, isA t10 i0.1 (by omega), isF tm rfl, isF c0 rfl, fun _ => ⟨by omega, isF tm rfl, fun _ => ?_, fun w => absurd (by omega) w⟩, fun w => absurd e1 w⟩, fun w => absurd (show ¬ (1 : Int) = 0 by decide) w⟩
          refine Wp.callR (j := 0) rfl (Nat.le_of_ble_eq_true rfl) ⟨true, tm⟩ cr (fun v h3 q => ?_)
          obtain ⟨rfl, q1, q2, q3, q4⟩ := q
          have F3 : FitM h0 h3 m (tnh T) un (L' ++ [xupd ρ i e]) := F'.notes q1 q2 q3 (by omega) q4
          have C3 := C0.keep F3.1
          have tm3 := C3.2.1.1
          obtain ⟨t10', f93'⟩ := C3.2.1.2.2.2.2.2.2.2.2.2.2.1
          obtain ⟨t9', f92'⟩ := C3.2.1.2.2.2.2.2.2.2.2.2.1
          have a10 : ∀ j, xar h3 (m + 10) j = xar h' (m + 10) j := fun j => q1.2.2.2.2 (m + 10) j (by omega) (fun w => by omega)
          have a9 : xar h3 (m + 9) (k : Int) = i := (F3.2.1 k kl).trans uk
          rw [rwv_yes cb.1 cb.2] at hacc
          have nx := ihs (e + 1) (xputa h3 (m + 10) i (e + 1)) (L' ++ [xupd ρ i e]) (by omega) (by omega) F3.of (fun j j0 j1 jn => by rw [xar_puta, if_neg (fun w => jn w.2), a10]; exact hr' j j0 j1 jn) (by rw [xar_puta, if_pos ⟨rfl, rfl⟩]) (by rw [List.length_append]; simp; omega) hacc
          clear hacc ihs C' F' C0 F K isf hl hl' cr C3 F3
          refine Wp.vc 400 [145] rfl ?_
          rw [f92', f93', a9, (a10 i).trans he]
          exact ⟨fun w => absurd w (by omega), fun _ => ⟨isF tm3 rfl, isA t9' (by omega) (by omega), isF tm3 rfl, isA t10' i0.1 (by omega), by omega, isB t10' i0.1 (by omega), nx⟩⟩
        · rw [xb_neg cb]
          refine Wp.vc 400 [145, 169, 182] rfl ?_
          refine ⟨fun w => absurd rfl w, fun _ => skip (rwv_no ?_)⟩
          by_cases c : xbit u e
          · exact Or.inl c
          · exact Or.inr (fun w => cb ⟨c, w⟩)
    have C := C0.keep F.1
    have tm := C.2.1.1
    obtain ⟨t10, f93⟩ := C.2.1.2.2.2.2.2.2.2.2.2.2.1
    obtain ⟨t9, f92⟩ := C.2.1.2.2.2.2.2.2.2.2.2.1
    have a9 : xar h (m + 9) (k : Int) = i := (F.2.1 k kl).trans uk
    have nx := at145 _ 0 (xputa h (m + 10) i 0) L rfl (by omega) F.of (fun j j0 j1 jn => by rw [xar_puta, if_neg (fun w => jn w.2)]; exact hr j j0 j1 jn) (by rw [xar_puta, if_pos ⟨rfl, rfl⟩]) (by
      simp at hl
      omega) rfl
    clear at145 C C0 F K hl
    refine Wp.vc 400 [145] rfl ?_
    rw [f92, f93, a9, hi1]
    exact ⟨fun w => absurd w (by omega), fun _ => ⟨isF tm rfl, isA t9 (by omega) (by omega), isF tm rfl, isA t10 i0.1 (by omega), by omega, isB t10 i0.1 (by omega), nx⟩⟩
  | cons i' us ihus =>
    intro d h k i u ρ L l2 hk hs u0 hu hρ hi hl F hr hi1 K
    have TO := C0.2.2.2.1
    have hn := TO.2.2.1
    have i0 := hi i List.mem_cons_self
    have i0' := hi i' (by simp)
    have hs2 := (List.pairwise_cons.mp hs)
    have kl : k + 1 < un.length := by
      have := congrArg List.length hk
      simp at this
      omega
    have dk := List.drop_eq_getElem_cons (Nat.lt_of_succ_lt kl)
    rw [hk] at dk
    have uk : un.getD k 0 = i := by
      have := (List.cons.inj dk).1
      rw [this]
      simp [List.getD, Nat.lt_of_succ_lt kl]
    have hk' : un.drop (k + 1) = i' :: us := (List.cons.inj dk).2.symm
    have uk' : un.getD (k + 1) 0 = i' := by
      have := List.drop_eq_getElem_cons kl
      rw [hk'] at this
      have := (List.cons.inj this).1
      rw [this]
      simp [List.getD, kl]
    have ρi : ρ i = -2 := by
      rcases hρ i i0.1 i0.2 with w | w
      · exact w.2
      · exact absurd List.mem_cons_self w.1
    have ii : i < i' := hs2.1 i' List.mem_cons_self
    have p77 : 7 ^ (us.length + 1 + 1) = 7 * 7 ^ (us.length + 1) := by rw [Nat.pow_succ 7 (us.length + 1)]; omega
    have at145 : ∀ (s : Nat) (e : Int) (h' : XH) (L' : List (Int → Int)), (tnh T - e).toNat = s → (0 ≤ e ∧ e ≤ tnh T) → FitM h0 h' m (tnh T) un L' → (∀ j : Int, 0 ≤ j → j < tnh T → j ≠ i → xar h' (m + 10) j = ρ j) → xar h' (m + 10) i = e → L'.length + s * 7 ^ (us.length + 1) ≤ 1000000 → L' ++ (ndr e (tnh T)).flatMap (rwv T (i' :: us) i u ρ) = L ++ rwu T (i :: i' :: us) u ρ → Wp (d + 2) 204 145 [some (.inr (.inr m)), some (.inl (k : Int)), some (.inl i)] [] h' Q := by
      intro s
      induction s with
      | zero =>
        intro e h' L' hs' e0 F' hr' he hl' hacc
        have C' := C0.keep F'.1
        have tm := C'.2.1.1
        obtain ⟨t10, f93⟩ := C'.2.1.2.2.2.2.2.2.2.2.2.2.1
        have c0 := C'.2.2.1.1.2.2
        have f135 : xfl h' (xfl h' m 69) 135 = tnh T := C'.2.2.1.2.2.1.2.2.1
        have en : e = tnh T := by omega
        rw [en, ndr_end, List.flatMap_nil, List.append_nil] at hacc
        have K := K (xputa h' (m + 10) i (-2)) (some (.inl i)) (by rw [← hacc]; exact F'.of) (fun j j0 j1 => by
          rw [xar_puta]
          by_cases c : j = i
          · rw [if_pos ⟨rfl, c⟩, c, ρi]
          · rw [if_neg (fun w => c w.2)]; exact hr' j j0 j1 c)
        clear C' F' C0 F hl' hacc hl ihus
        refine Wp.vc 400 [124, 145] rfl ?_
        rw [f93, f135, he]
        refine ⟨isF tm rfl, isA t10 i0.1 (by omega), isF tm rfl, isF c0 rfl, fun _ => ⟨isF tm rfl, isA t10 i0.1 (by omega), isF tm rfl, isF c0 rfl, fun w => absurd w (by omega), fun _ => ⟨isF tm rfl, isB t10 i0.1 (by omega), by omega, ?_⟩⟩, fun w => absurd (by omega) w⟩
        rw [show (k : Int) + -1 = (k : Int) - 1 by omega]
        exact K
      | succ s ihs =>
        intro e h' L' hs' e0 F' hr' he hl' hacc
        rw [Nat.succ_mul] at hl'
        have C' := C0.keep F'.1
        have tm := C'.2.1.1
        obtain ⟨t10, f93⟩ := C'.2.1.2.2.2.2.2.2.2.2.2.2.1
        obtain ⟨t9, f92⟩ := C'.2.1.2.2.2.2.2.2.2.2.2.1
        have c0 := C'.2.2.1.1.2.2
        have f135 : xfl h' (xfl h' m 69) 135 = tnh T := C'.2.2.1.2.2.1.2.2.1
        have f96 := F'.2.2.1
        have e1 : e < tnh T := by omega
        have bnd := C'.1
        rw [ndr_st e0.1 e1, List.flatMap_cons, ← List.append_assoc] at hacc
        have isf := m_isFitting (d := d) C' i0 ⟨e0.1, e1⟩ hr' he ρi (hu e e0.1 e1)
        have skip : rwv T (i' :: us) i u ρ e = [] → Wp (d + 2) 204 169 [some (.inr (.inr m)), some (.inl (k : Int)), some (.inl i)] [] h' Q := by
          intro hk0
          rw [hk0, List.append_nil] at hacc
          have nx := ihs (e + 1) (xputa h' (m + 10) i (e + 1)) L' (by omega) (by omega) F'.of (fun j j0 j1 jn => by rw [xar_puta, if_neg (fun w => jn w.2)]; exact hr' j j0 j1 jn) (by rw [xar_puta, if_pos ⟨rfl, rfl⟩]) (by omega) hacc
          clear hacc ihs C' F' C0 F K isf hl hl' ihus
          refine Wp.vc 400 [145] rfl ?_
          rw [f93, he]
          exact ⟨isF tm rfl, isA t10 i0.1 (by omega), by omega, isB t10 i0.1 (by omega), nx⟩
        refine Wp.vc 400 [145, 169, 182] rfl ?_
        rw [f93, f135, he]
        refine ⟨isF tm rfl, isA t10 i0.1 (by omega), isF tm rfl, isF c0 rfl, fun w => absurd w (by omega), fun _ => ?_⟩
        refine Wp.callE (j := 0) rfl (Nat.le_of_ble_eq_true rfl) ⟨true, tm⟩ isf ?_
        by_cases cb : ¬ xbit u e ∧ mayB T i e
        · rw [xb_pos cb]
          have M : MskOK u (tnh T) (xones u) := ⟨⟨by omega, hn.2⟩, u0.1, u0.2, rfl⟩
          obtain ⟨M2, -, -⟩ := M.add e0.1 e1 cb.1
          have u7 := two_pow7 (n := tnh T) ⟨by omega, hn.2⟩
          rw [rwv_yes cb.1 cb.2] at hacc
          have inn : i' ∉ us := fun w => by
            have := (List.pairwise_cons.mp hs2.2).1 i' w
            omega
          have nx := ihus d (xputa h' (m + 10) i' (-1)) (k + 1) i' (u + 2 ^ e.toNat) (xupd ρ i e) L' (some (.inl i)) hk' hs2.2 ⟨M2.2.1, M2.2.2.1⟩ (fun g g0 g1 => by
            rw [bit_add ⟨u0.1, by omega⟩ ⟨e0.1, by omega⟩ ⟨g0, by omega⟩ cb.1, hu g g0 g1]
            unfold xupd
            constructor
            · rintro (w | ⟨j, j0, j1, w⟩)
              · exact ⟨i, i0.1, i0.2, by rw [if_pos rfl, w]⟩
              · refine ⟨j, j0, j1, ?_⟩
                rw [if_neg (fun q => by rw [q, ρi] at w; omega)]
                exact w
            · rintro ⟨j, j0, j1, w⟩
              by_cases c : j = i
              · rw [if_pos c] at w
                exact Or.inl w.symm
              · rw [if_neg c] at w
                exact Or.inr ⟨j, j0, j1, w⟩) (fun j j0 j1 => by
            unfold xupd
            by_cases c : j = i
            · rw [if_pos c]
              refine Or.inr ⟨fun w => ?_, e0.1, e1⟩
              have := hs2.1 j w
              omega
            · rw [if_neg c]
              rcases hρ j j0 j1 with w | w
              · exact Or.inl ⟨(List.mem_cons.mp w.1).resolve_left c, w.2⟩
              · exact Or.inr ⟨fun q => w.1 (List.mem_cons_of_mem _ q), w.2⟩) (fun j hj => hi j (List.mem_cons_of_mem _ hj)) (by omega) F'.of (fun j j0 j1 jn => by
            rw [xar_puta, if_neg (fun w => jn w.2)]
            unfold xupd
            by_cases c : j = i
            · rw [if_pos c, c]; exact he
            · rw [if_neg c]; exact hr' j j0 j1 c) (by rw [xar_puta, if_pos ⟨rfl, rfl⟩]) (fun h3 l2 F3 R3 => ?_)
          · have a9' : xar h' (m + 9) ((k : Int) + 1) = i' := by
              have := (F'.2.1 (k + 1) kl).trans uk'
              rwa [show ((k + 1 : Nat) : Int) = (k : Int) + 1 by omega] at this
            rw [show ((k + 1 : Nat) : Int) = (k : Int) + 1 by omega] at nx
            refine Wp.vc 400 [124, 145, 169] rfl ?_
            rw [f93, f135, he, f96, f92, a9']
            refine ⟨fun _ => ⟨isF tm rfl, isA t10 i0.1 (by omega), isF tm rfl, isF c0 rfl, fun _ => ⟨by omega, isF tm rfl, fun w => absurd w (by omega), fun _ => ⟨by omega, isF tm rfl, isF tm rfl, isA t9 (by omega) (by omega), isB t10 i0'.1 (by omega), nx⟩⟩, fun w => absurd e1 w⟩, fun w => absurd (show ¬ (1 : Int) = 0 by decide) w⟩
          · have C3 := C0.keep F3.1
            have tm3 := C3.2.1.1
            obtain ⟨t10', f93'⟩ := C3.2.1.2.2.2.2.2.2.2.2.2.2.1
            obtain ⟨t9', f92'⟩ := C3.2.1.2.2.2.2.2.2.2.2.2.1
            have a9 : xar h3 (m + 9) (k : Int) = i := (F3.2.1 k (Nat.lt_of_succ_lt kl)).trans uk
            have he3 : xar h3 (m + 10) i = e := (R3 i i0.1 i0.2).trans (if_pos rfl)
            have rl := rwu_len hn.2 (i' :: us) (u + 2 ^ e.toNat) (xupd ρ i e)
            have nx := ihs (e + 1) (xputa h3 (m + 10) i (e + 1)) (L' ++ rwu T (i' :: us) (u + 2 ^ e.toNat) (xupd ρ i e)) (by omega) (by omega) F3.of (fun j j0 j1 jn => by
              rw [xar_puta, if_neg (fun w => jn w.2), R3 j j0 j1]
              exact if_neg jn) (by rw [xar_puta, if_pos ⟨rfl, rfl⟩]) (by
              rw [List.length_append]
              simp only [List.length_cons] at rl
              omega) hacc
            clear hacc ihs C' F' C0 F K isf hl hl' C3 F3 ihus
            rw [show ((k + 1 : Nat) : Int) - 1 = (k : Int) by omega]
            refine Wp.vc 400 [145] rfl ?_
            rw [f92', f93', a9, he3]
            exact ⟨fun w => absurd w (by omega), fun _ => ⟨isF tm3 rfl, isA t9' (by omega) (by omega), isF tm3 rfl, isA t10' i0.1 (by omega), by omega, isB t10' i0.1 (by omega), nx⟩⟩
        · rw [xb_neg cb]
          refine Wp.vc 400 [145, 169, 182] rfl ?_
          refine ⟨fun w => absurd rfl w, fun _ => skip (rwv_no ?_)⟩
          by_cases c : xbit u e
          · exact Or.inl c
          · exact Or.inr (fun w => cb ⟨c, w⟩)
    have C := C0.keep F.1
    have tm := C.2.1.1
    obtain ⟨t10, f93⟩ := C.2.1.2.2.2.2.2.2.2.2.2.2.1
    obtain ⟨t9, f92⟩ := C.2.1.2.2.2.2.2.2.2.2.2.1
    have a9 : xar h (m + 9) (k : Int) = i := (F.2.1 k (Nat.lt_of_succ_lt kl)).trans uk
    have nx := at145 (tnh T - 0).toNat 0 (xputa h (m + 10) i 0) L rfl (by omega) F.of (fun j j0 j1 jn => by rw [xar_puta, if_neg (fun w => jn w.2)]; exact hr j j0 j1 jn) (by rw [xar_puta, if_pos ⟨rfl, rfl⟩]) (by
      simp only [List.length_cons] at hl
      have h3 : (tnh T - 0).toNat * 7 ^ (us.length + 1) ≤ 7 * 7 ^ (us.length + 1) := Nat.mul_le_mul_right _ (by omega)
      omega) rfl
    clear at145 C C0 F K hl ihus
    refine Wp.vc 400 [145] rfl ?_
    rw [f92, f93, a9, hi1]
    exact ⟨fun w => absurd w (by omega), fun _ => ⟨isF tm rfl, isA t9 (by omega) (by omega), isF tm rfl, isA t10 i0.1 (by omega), by omega, isB t10 i0.1 (by omega), nx⟩⟩
